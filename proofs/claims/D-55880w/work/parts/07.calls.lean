/-! calls, by their kinds; a method's start; exceptions made -/
set_option maxRecDepth 100000
/-- an instruction's heading: what the walk owes from here on -/
def kt (G : gE) (p : Program) (l : Launch) (e : Env) (R : Room) (s : State) (m : MethodId) (args : Array Value) (below : List Frame) (meth : Method) (c : Code) (nL : Nat) (Q : State → Prop) (pc : Nat) (lv : List (Nat × Value)) (st : List Value) (σ : hSt) : Prop :=
  ∀ (H : Heap) (locs : List Loc) (ls : Array Slot), Sh G σ s H locs → lv_has ls nL lv → W p l e R s m args below meth c H locs (σ.2.1 - s.heap.size) (σ.2.2 - hsum s.heap) Q (F0 m pc ls st)
theorem lg_sl1 {v : Value} {vs : List Value} (h : v.category = 1) : lg_sl (v :: vs) = .val v :: lg_sl vs := by
  simp [lg_sl, h]
theorem lg_sl2 {v : Value} {vs : List Value} (h : v.category = 2) : lg_sl (v :: vs) = .val v :: .second :: lg_sl vs := by
  simp [lg_sl, h]
theorem lv_args1 {v : Value} {vs : List Value} {i : Nat} (h : v.category = 1) : lv_args i (v :: vs) = (i, v) :: lv_args (i + 1) vs := by
  simp [lv_args, h]
theorem lv_args2 {v : Value} {vs : List Value} {i : Nat} (h : v.category = 2) : lv_args i (v :: vs) = (i, v) :: lv_args (i + 2) vs := by
  simp [lv_args, h]
/-- a method without handlers, from its walk -/
theorem m_of {l : Launch} (hl : l.stackTraces = false) {G : gE} {y : MethodName} {cc : ByteArray} {maxL : Nat} {ret : Option FieldType} {fr lo : Nat} {σ : hSt} {vals : List Value} {pre : Prop} {P : Option Value → hSt → Prop} {PX : Nat → Nat → hSt → Prop} (hy : plainFor y = true) (hlen : (lg_sl vals).length ≤ maxL)
    (body : ∀ (p : Program) (e : Env) (s : State) (m : MethodId) (args : Array Value) (below : List Frame) (meth : Method) (c : Code), xC G p l s m args meth c cc maxL y.cls → meth.sig.returnType = ret → meth.name = y.name → (∀ x ∈ c.exceptionTable.toList, False) → (gL G - σ.2.1 = gL G - s.heap.size ∧ gU G - σ.2.2 = gU G - hsum s.heap) → pre →
      kt G p l e { frames := fr, cells := gL G - σ.2.1, slots := gU G - σ.2.2, locals := lo } s m args below meth c maxL (vx_MQ below (cQ G P) (cX G PX) args s (gL G - σ.2.1) (gU G - σ.2.2) (gF G)) 0 (lv_args 0 vals) [] σ) : cM l G y (ws_ y cc maxL ret) fr lo σ vals pre P PX := by
  refine vx_ofW (cc := cc) (maxL := maxL) (ret := ret) (ws' := lw_all) hy rfl ?_
  intro p e s m args below meth c s₁ B hml ht hv
  obtain ⟨rfl, hpre, hKn, hKz, hS⟩ := hv
  have hts := atoms_spec (ws := ws_ y cc maxL ret) B.pre
  have hts : ∀ w ∈ lw_all, w.before _ s = true := fun w h => hts w (List.mem_cons_of_mem _ h)
  have hown : s.vm.findClass y.cls = some m.cls := findClass_of_methodNamed B.named
  have hin : meth.name = y.name := (name_of_methodNamed B.named B.method).1
  have hk := body p e s m _ below meth c ⟨B.exec, B.bytes, hml, hown, hts, B.notSynchronized, hl, hKn, hKz⟩ B.returns hin ht ⟨by rw [hS.2.1], by rw [hS.2.2.1]⟩ hpre s.heap [] _ ⟨hS, va_S.rf⟩ (lv_entry vals hlen)
  rw [lg_entry_eq]
  rw [← hS.2.1, ← hS.2.2.1, Nat.sub_self, Nat.sub_self] at hk
  rw [← hS.2.1, ← hS.2.2.1]
  exact hk
theorem m_ofH {l : Launch} (hl : l.stackTraces = false) {G : gE} {y : MethodName} {cc : ByteArray} {maxL : Nat} {ret : Option FieldType} {hh : List (Nat × Nat × Nat × Nat)} {fr lo : Nat} {σ : hSt} {vals : List Value} {pre : Prop} {P : Option Value → hSt → Prop} {PX : Nat → Nat → hSt → Prop} (hy : plainFor y = true) (hlen : (lg_sl vals).length ≤ maxL)
    (body : ∀ (p : Program) (e : Env) (s : State) (m : MethodId) (args : Array Value) (below : List Frame) (meth : Method) (c : Code), xC G p l s m args meth c cc maxL y.cls → meth.sig.returnType = ret → meth.name = y.name → c.exceptionTable.toList = tableOf hh → (gL G - σ.2.1 = gL G - s.heap.size ∧ gU G - σ.2.2 = gU G - hsum s.heap) → pre →
      kt G p l e { frames := fr, cells := gL G - σ.2.1, slots := gU G - σ.2.2, locals := lo } s m args below meth c maxL (vx_MQ below (cQ G P) (cX G PX) args s (gL G - σ.2.1) (gU G - σ.2.2) (gF G)) 0 (lv_args 0 vals) [] σ) : cM l G y (wsW_ y cc maxL ret hh) fr lo σ vals pre P PX := by
  refine vx_ofWH (cc := cc) (maxL := maxL) (ret := ret) (hh := hh) (ws' := lw_all) hy rfl ?_
  intro p e s m args below meth c s₁ B hml hv
  obtain ⟨rfl, hpre, hKn, hKz, hS⟩ := hv
  have hts0 := atoms_spec (ws := wsW_ y cc maxL ret hh) B.pre
  have ht := vx_table (x := y) B (hts0 _ List.mem_cons_self)
  have hts : ∀ w ∈ lw_all, w.before _ s = true := fun w h => hts0 w (List.mem_cons_of_mem _ h)
  have hown : s.vm.findClass y.cls = some m.cls := findClass_of_methodNamed B.named
  have hin : meth.name = y.name := (name_of_methodNamed B.named B.method).1
  have hk := body p e s m _ below meth c ⟨B.exec, B.bytes, hml, hown, hts, B.notSynchronized, hl, hKn, hKz⟩ B.returns hin ht ⟨by rw [hS.2.1], by rw [hS.2.2.1]⟩ hpre s.heap [] _ ⟨hS, va_S.rf⟩ (lv_entry vals hlen)
  rw [lg_entry_eq]
  rw [← hS.2.1, ← hS.2.2.1, Nat.sub_self, Nat.sub_self] at hk
  rw [← hS.2.1, ← hS.2.2.1]
  exact hk
/-- how much a call's residue of the stack takes -/
theorem cs_le {st : List Value} (h : st.length ≤ 4) : (st.map fun v => v.category).sum ≤ 8 := by
  have key : ∀ l : List Value, (l.map fun v => v.category).sum ≤ 2 * l.length := by
    intro l
    induction l with
    | nil => simp
    | cons v t ih =>
      have h1 := lv_cat v
      simp only [List.map_cons, List.sum_cons, List.length_cons]
      omega
  have := key st
  omega
section CALLS
variable {p : Program} {l : Launch} {e : Env} {R : Room} {s : State} {m : MethodId} {args : Array Value} {below : List Frame} {meth : Method} {c : Code} {H : Heap} {locs : List Loc} {cells slots : Nat} {Q : State → Prop}
variable {G : gE} {σ : hSt} {cc : ByteArray} {nL : Nat} {own : String} {pc : Nat} {ls : Array Slot} {rest st0 : List Value}
variable {y : MethodName} {code : ByteArray} {maxL n idx fr lo : Nat} {ret : Option FieldType} {hh : List (Nat × Nat × Nat × Nat)} {pre : Prop} {P' : Option Value → hSt → Prop} {PX' : Nat → Nat → hSt → Prop} {As : List Value}
/-- there is room for what the callee may make -/
theorem room_call (hS : Sh G σ s H locs) (hR : R.cells = gL G - s.heap.size ∧ R.slots = gU G - hsum s.heap) (hz : hsum s.heap ≤ σ.2.2) : (σ.2.1 - s.heap.size) + (gL G - σ.2.1) ≤ R.cells ∧ (σ.2.2 - hsum s.heap) + (gU G - σ.2.2) ≤ R.slots := by
  have h1 := hS.2.1
  have h2 := hS.1.2.1
  have h3 := hS.1.2.2.2.1
  have h4 := hS.1.2.2.2.2.1
  rw [hR.1, hR.2]
  omega
theorem c_S (C : xC G p l s m args meth c cc nL own) (hS : Sh G σ s H locs) (hR : R.cells = gL G - s.heap.size ∧ R.slots = gU G - hsum s.heap) (hsz : ls.size = nL) (hM : cM l G y (ws_ y code maxL ret) fr lo σ As pre P' PX') (hp : pre) (hG : GoodIn lw_all (va_wsS own idx y (ws_ y code maxL ret)))
    (hd : y.cls ≠ "java/lang/invoke/MethodHandle" ∧ y.cls ≠ "java/lang/invoke/VarHandle" ∧ (parseMethodDescriptor y.desc).map (fun d => d.parameters.length) = some n) (hroom : fr + 1 ≤ R.frames ∧ 8 + (maxL + 11) + lo ≤ R.locals) (hn : As.length = n) (hst : st0 = As.reverse ++ rest) (hW : rest.length ≤ 4) (hdg : decode cc pc = .ok (.invokestatic idx, 3))
    (kx : ∀ ci q σ' H1 locs1, PX' ci q σ' → Sh G σ' s H1 locs1 → thr G s H1 ci q → vx_W p l e R s m args below meth c H1 locs1 (σ'.2.1 - s.heap.size) (σ'.2.2 - hsum s.heap) Q (F0 m pc ls rest) q)
    (kk : ∀ v σ' H1 locs1, P' v σ' → Sh G σ' s H1 locs1 → W p l e R s m args below meth c H1 locs1 (σ'.2.1 - s.heap.size) (σ'.2.2 - hsum s.heap) Q (F0 m (pc + 3) ls (v.toList ++ rest))) : W p l e R s m args below meth c H locs cells slots Q (F0 m pc ls st0) := by
  refine W_tight hS (W_have hS fun hz => ?_)
  subst hst
  exact r_run hS (vx_runS ⟨C.1, C.2.1, C.2.2.1, C.2.2.2.1, C.2.2.2.2.1⟩ hM (va_cwS n C.2.2.2.2.1 hG rfl rfl rfl hd hroom) ⟨cPre_blind G σ As pre, cPre_at C hS hp⟩ rfl hn hsz rfl (lv_room (cs_le hW)) hdg (room_call hS hR hz)) kx kk
theorem c_V {ci : Nat} {Cn : String} {T : u_T} {N : Nat} {r : Option Nat} (C : xC G p l s m args meth c cc nL own) (hS : Sh G σ s H locs) (hR : R.cells = gL G - s.heap.size ∧ R.slots = gU G - hsum s.heap) (hsz : ls.size = nL) (hc : gCL[ci]? = some (Cn, T, N)) (hr : rcv σ r ci) (hM : cM l G y (ws_ y code maxL ret) fr lo σ (va_rf r :: As) pre P' PX') (hp : pre) (hG : GoodIn lw_all (wsV own idx Cn y (ws_ y code maxL ret)))
    (hd : y.cls = Cn ∧ y.cls ≠ "java/lang/invoke/MethodHandle" ∧ y.cls ≠ "java/lang/invoke/VarHandle" ∧ (parseMethodDescriptor y.desc).map (fun d => d.parameters.length) = some n) (hroom : fr + 1 ≤ R.frames ∧ 8 + (maxL + 11) + lo ≤ R.locals) (hn : As.length = n) (hst : st0 = As.reverse ++ va_rf r :: rest) (hW : rest.length ≤ 4) (hdg : decode cc pc = .ok (.invokevirtual idx, 3))
    (kx : ∀ ci q σ' H1 locs1, PX' ci q σ' → Sh G σ' s H1 locs1 → thr G s H1 ci q → vx_W p l e R s m args below meth c H1 locs1 (σ'.2.1 - s.heap.size) (σ'.2.2 - hsum s.heap) Q (F0 m pc ls rest) q)
    (kk : ∀ v σ' H1 locs1, P' v σ' → Sh G σ' s H1 locs1 → W p l e R s m args below meth c H1 locs1 (σ'.2.1 - s.heap.size) (σ'.2.2 - hsum s.heap) Q (F0 m (pc + 3) ls (v.toList ++ rest))) : W p l e R s m args below meth c H locs cells slots Q (F0 m pc ls st0) := by
  refine W_tight hS (W_have hS fun hz => ?_)
  subst hst
  obtain ⟨b, fs, rfl, hb⟩ := hr
  exact r_run hS (vx_runV ⟨C.1, C.2.1, C.2.2.1, C.2.2.2.1, C.2.2.2.2.1⟩ hM (cwV n C.2.2.2.2.1 hG rfl rfl rfl hd hroom) ⟨cPre_blind G σ _ pre, rcv_at C.2.2.2.2.2.2.2.1 hS hb hc, cPre_at C hS hp⟩ rfl hn hsz rfl (lv_room (cs_le hW)) hdg (room_call hS hR hz)) kx kk
theorem c_I {r : Option Nat} (C : xC G p l s m args meth c cc nL own) (hS : Sh G σ s H locs) (hR : R.cells = gL G - s.heap.size ∧ R.slots = gU G - hsum s.heap) (hsz : ls.size = nL) (hr : ∃ b, r = some b) (hM : cM l G y (ws_ y code maxL none) fr lo σ (va_rf r :: As) pre P' PX') (hp : pre) (hG : GoodIn lw_all (ws_ y code maxL none)) (hini : Cond.initialized y.cls ∈ lw_all) (hlk : Cond.methodLink own idx y ∈ lw_all) (hin : Cond.instanceMethod y ∈ lw_all) (hy1 : y.name = "<init>")
    (hd : y.cls ≠ "java/lang/invoke/MethodHandle" ∧ y.cls ≠ "java/lang/invoke/VarHandle" ∧ (parseMethodDescriptor y.desc).map (fun d => d.parameters.length) = some n) (hroom : fr + 1 ≤ R.frames ∧ 8 + (maxL + 11) + lo ≤ R.locals) (hn : As.length = n) (hst : st0 = As.reverse ++ va_rf r :: rest) (hW : rest.length ≤ 4) (hdg : decode cc pc = .ok (.invokespecial idx, 3))
    (kx : ∀ ci q σ' H1 locs1, PX' ci q σ' → Sh G σ' s H1 locs1 → thr G s H1 ci q → vx_W p l e R s m args below meth c H1 locs1 (σ'.2.1 - s.heap.size) (σ'.2.2 - hsum s.heap) Q (F0 m pc ls rest) q)
    (kk : ∀ v σ' H1 locs1, P' v σ' → Sh G σ' s H1 locs1 → W p l e R s m args below meth c H1 locs1 (σ'.2.1 - s.heap.size) (σ'.2.2 - hsum s.heap) Q (F0 m (pc + 3) ls (v.toList ++ rest))) : W p l e R s m args below meth c H locs cells slots Q (F0 m pc ls st0) := by
  refine W_tight hS (W_have hS fun hz => ?_)
  subst hst
  obtain ⟨b, rfl⟩ := hr
  exact r_run hS (vx_runI ⟨C.1, C.2.1, C.2.2.1, C.2.2.2.1, C.2.2.2.2.1⟩ hM (cwI n C.2.2.2.2.1 hG rfl rfl rfl (C.2.2.2.2.1 _ hini) (C.2.2.2.2.1 _ hlk) (C.2.2.2.2.1 _ hin) hy1 hd hroom) ⟨cPre_blind G σ _ pre, cPre_at C hS hp⟩ rfl hn hsz rfl (lv_room (cs_le hW)) hdg (room_call hS hR hz)) kx kk
/-- an inherited method, or one that a deeper kind overrides -/
theorem c_U {ci : Nat} {Cn owner : String} {T : u_T} {N : Nat} {r : Option Nat} {x : MethodName} (C : xC G p l s m args meth c cc nL own) (hS : Sh G σ s H locs) (hR : R.cells = gL G - s.heap.size ∧ R.slots = gU G - hsum s.heap) (hsz : ls.size = nL) (hc : gCL[ci]? = some (Cn, T, N)) (hr : rcv σ r ci) (hM : cM l G y (ws_ y code maxL ret) fr lo σ (va_rf r :: As) pre P' PX') (hp : pre)
    (hlk : Cond.methodLink own idx x ∈ lw_all) (hsm : Cond.sameMethod x.cls owner x.name x.desc ∈ lw_all) (hdecl : va_Decl s ⟨owner, x.name, x.desc⟩) (hsel : (Cond.selects Cn x y).before args s = true) (hin : Cond.instanceMethod y ∈ lw_all) (hini : Cond.initialized y.cls ∈ lw_all) (hcode : Cond.code y code maxL ret ∈ lw_all) (hod : owner ≠ "java/lang/invoke/MethodHandle" ∧ owner ≠ "java/lang/invoke/VarHandle") (hdl : (parseMethodDescriptor x.desc).map (fun d => d.parameters.length) = some n) (hroom : fr + 1 ≤ R.frames ∧ 8 + (maxL + 11) + lo ≤ R.locals) (hn : As.length = n) (hst : st0 = As.reverse ++ va_rf r :: rest) (hW : rest.length ≤ 4) (hdg : decode cc pc = .ok (.invokevirtual idx, 3))
    (kx : ∀ ci q σ' H1 locs1, PX' ci q σ' → Sh G σ' s H1 locs1 → thr G s H1 ci q → vx_W p l e R s m args below meth c H1 locs1 (σ'.2.1 - s.heap.size) (σ'.2.2 - hsum s.heap) Q (F0 m pc ls rest) q)
    (kk : ∀ v σ' H1 locs1, P' v σ' → Sh G σ' s H1 locs1 → W p l e R s m args below meth c H1 locs1 (σ'.2.1 - s.heap.size) (σ'.2.2 - hsum s.heap) Q (F0 m (pc + 3) ls (v.toList ++ rest))) : W p l e R s m args below meth c H locs cells slots Q (F0 m pc ls st0) := by
  refine W_tight hS (W_have hS fun hz => ?_)
  subst hst
  obtain ⟨b, fs, rfl, hb⟩ := hr
  have hts := C.2.2.2.2.1
  exact r_run hS (vx_runU ⟨C.1, C.2.1, C.2.2.1, C.2.2.2.1, C.2.2.2.2.1⟩ hM ⟨⟨rfl, rfl, hroom.1, hroom.2, pay_in hts (lw_meth hcode), List.mem_cons_self⟩, hts _ hcode, hts _ hini, hod, (fun sig h => by have h2 := hdl; rw [h] at h2; exact (Option.some.inj h2).symm), hts _ hlk, hts _ hsm, hdecl, hsel, hts _ hin⟩ ⟨cPre_blind G σ _ pre, rcv_at C.2.2.2.2.2.2.2.1 hS hb hc, cPre_at C hS hp⟩ rfl hn hsz rfl (lv_room (cs_le hW)) hdg (room_call hS hR hz)) kx kk
theorem decl_w {x : MethodName} (C : xC G p l s m args meth c cc nL own) (h : Cond.declares x ∈ lw_tbl) (hx : decide (x.cls ≠ "java/lang/invoke/MethodHandle") = true) : va_Decl s x := by
  obtain ⟨r0, r, hn, hrm, hstR, hsigR⟩ := Cond.declares_spec (va_Nw.use (A := #[]) rfl (C.2.2.2.2.2.2.2.1.2.1 _ (gx h hx)))
  exact ⟨r0, r, hn, hrm, hstR, hsigR⟩
theorem decl_c {x : MethodName} {b : ByteArray} {k : Nat} {rt : Option FieldType} (C : xC G p l s m args meth c cc nL own) (h : Cond.instanceMethod x ∈ lw_all) (h2 : Cond.code x b k rt ∈ lw_all) : va_Decl s x := va_Decl.of (C.2.2.2.2.1 _ h) (C.2.2.2.2.1 _ h2)
/-- a private method of a kind above: it selects itself -/
theorem sel_p {Cn : String} {x0 y0 : MethodName} (C : xC G p l s m args meth c cc nL own) (hp : Cond.privateMethod y ∈ lw_tbl) (hsm : Cond.sameMethod y.cls y.cls y.name y.desc ∈ lw_all) (hin : Cond.instanceMethod y ∈ lw_all) (hw : Cond.selects Cn x0 y0 ∈ lw_all) (h0 : y0.cls = y.cls) : (Cond.selects Cn y y).before args s = true := by
  have hts := C.2.2.2.2.1
  obtain ⟨c1, r1, m1, a1, a2, a3, a4, k1, b1, b2⟩ := Cond.selects_spec (hts _ hw)
  have hP : (Cond.privateMethod y).before #[] s = true := va_Nw.use rfl (C.2.2.2.2.2.2.2.1.2.1 _ (gx hp rfl))
  have hpriv := Cond.privateMethod_at hP
  obtain ⟨m2, meth2, d1, d2, d3, d4⟩ := Cond.instanceMethod_spec (hts _ hin)
  have hcy : s.vm.findClass y.cls = some m2.cls := findClass_of_methodNamed d1
  have hc0 : s.vm.findClass y0.cls = some m1.cls := findClass_of_methodNamed a3
  rw [h0] at hc0
  have hcc : m1.cls = m2.cls := Option.some.inj (hc0.symm.trans hcy)
  cases hf : s.methodFound? y.cls y.name y.desc with
  | none =>
    have h9 := hts _ hsm
    simp [Cond.before, Cond.holds, Cond.value, hcy, hf] at h9
  | some r =>
    obtain ⟨h5, -⟩ := Cond.sameMethod_spec hcy hf (hts _ hsm)
    have h6 : r = m2 := Option.some.inj (h5.symm.trans d1)
    subst h6
    have h7 : selectMethod {} s.vm c1 r = .method r := selectMethod_private d2 (hpriv r meth2 d1 d2)
    rw [hcc] at b1
    show (Cond.selects Cn y y).holds _ _ _ _ _ = true
    simp only [Cond.holds, Cond.value, a1, hf, d1, h7, b1, Option.any_some, b2, decide_true, Bool.not_false, Bool.and_self]
    rfl
/-- a method of the kind above, called as such -/
theorem c_SU {ci : Nat} {Cn : String} {T : u_T} {N : Nat} {r : Option Nat} (C : xC G p l s m args meth c cc nL own) (hS : Sh G σ s H locs) (hR : R.cells = gL G - s.heap.size ∧ R.slots = gU G - hsum s.heap) (hsz : ls.size = nL) (hc : gCL[ci]? = some (Cn, T, N)) (hr : rcv σ r ci) (hM : cM l G y (ws_ y code maxL ret) fr lo σ (va_rf r :: As) pre P' PX') (hp : pre) (hG : GoodIn lw_all (va_wsSU own idx y (ws_ y code maxL ret))) (hd : y.name ≠ "<init>" ∧ (parseMethodDescriptor y.desc).map (fun d => d.parameters.length) = some n) (hroom : fr + 1 ≤ R.frames ∧ 8 + (maxL + 11) + lo ≤ R.locals) (hn : As.length = n) (hst : st0 = As.reverse ++ va_rf r :: rest) (hW : rest.length ≤ 4) (hdg : decode cc pc = .ok (.invokespecial idx, 3))
    (kx : ∀ ci q σ' H1 locs1, PX' ci q σ' → Sh G σ' s H1 locs1 → thr G s H1 ci q → vx_W p l e R s m args below meth c H1 locs1 (σ'.2.1 - s.heap.size) (σ'.2.2 - hsum s.heap) Q (F0 m pc ls rest) q)
    (kk : ∀ v σ' H1 locs1, P' v σ' → Sh G σ' s H1 locs1 → W p l e R s m args below meth c H1 locs1 (σ'.2.1 - s.heap.size) (σ'.2.2 - hsum s.heap) Q (F0 m (pc + 3) ls (v.toList ++ rest))) : W p l e R s m args below meth c H locs cells slots Q (F0 m pc ls st0) := by
  refine W_tight hS (W_have hS fun hz => ?_)
  subst hst
  obtain ⟨b, fs, rfl, hb⟩ := hr
  exact r_run hS (vx_runSU (cell_cls C.2.2.2.2.2.2.2.1 hc) ⟨C.1, C.2.1, C.2.2.1, C.2.2.2.1, C.2.2.2.2.1⟩ hM (va_cwSU n C.2.2.2.2.1 hG rfl rfl rfl hd hroom) ⟨cPre_blind G σ _ pre, rcv_at C.2.2.2.2.2.2.2.1 hS hb hc, cPre_at C hS hp⟩ rfl hn hsz rfl (lv_room (cs_le hW)) hdg (room_call hS hR hz)) kx kk
/-- private members of a nest mate -/
theorem nest_w {host : String} (C : xC G p l s m args meth c cc nL own) (h : Cond.methodLinkNest own idx y host ∈ lw_tbl) : va_Nw (.methodLinkNest own idx y host) s := C.2.2.2.2.2.2.2.1.2.1 _ (gx h rfl)
theorem c_VN {ci : Nat} {Cn host : String} {T : u_T} {N : Nat} {r : Option Nat} (C : xC G p l s m args meth c cc nL own) (hS : Sh G σ s H locs) (hR : R.cells = gL G - s.heap.size ∧ R.slots = gU G - hsum s.heap) (hsz : ls.size = nL) (hc : gCL[ci]? = some (Cn, T, N)) (hr : rcv σ r ci) (hM : cM l G y (ws_ y code maxL ret) fr lo σ (va_rf r :: As) pre P' PX') (hp : pre) (hcode : Cond.code y code maxL ret ∈ lw_all) (hl : Cond.methodLinkNest own idx y host ∈ lw_tbl) (hini : Cond.initialized y.cls ∈ lw_all) (hin : Cond.instanceMethod y ∈ lw_all) (hsel : Cond.selects Cn y y ∈ lw_all) (hd : y.cls ≠ "java/lang/invoke/MethodHandle" ∧ y.cls ≠ "java/lang/invoke/VarHandle" ∧ (parseMethodDescriptor y.desc).map (fun d => d.parameters.length) = some n) (hroom : fr + 1 ≤ R.frames ∧ 8 + (maxL + 11) + lo ≤ R.locals) (hn : As.length = n) (hst : st0 = As.reverse ++ va_rf r :: rest) (hW : rest.length ≤ 4) (hdg : decode cc pc = .ok (.invokevirtual idx, 3))
    (kx : ∀ ci q σ' H1 locs1, PX' ci q σ' → Sh G σ' s H1 locs1 → thr G s H1 ci q → vx_W p l e R s m args below meth c H1 locs1 (σ'.2.1 - s.heap.size) (σ'.2.2 - hsum s.heap) Q (F0 m pc ls rest) q)
    (kk : ∀ v σ' H1 locs1, P' v σ' → Sh G σ' s H1 locs1 → W p l e R s m args below meth c H1 locs1 (σ'.2.1 - s.heap.size) (σ'.2.2 - hsum s.heap) Q (F0 m (pc + 3) ls (v.toList ++ rest))) : W p l e R s m args below meth c H locs cells slots Q (F0 m pc ls st0) := by
  refine W_tight hS (W_have hS fun hz => ?_)
  subst hst
  obtain ⟨b, fs, rfl, hb⟩ := hr
  have hts := C.2.2.2.2.1
  exact r_run hS (vx_runVN ⟨C.1, C.2.1, C.2.2.1, C.2.2.2.1, C.2.2.2.2.1⟩ hM ⟨va_cnB n hts (lw_meth hcode) rfl rfl rfl (nest_w C hl) (hts _ hini) hd hroom, hts _ hin, hts _ hsel⟩ ⟨cPre_blind G σ _ pre, rcv_at C.2.2.2.2.2.2.2.1 hS hb hc, cPre_at C hS hp⟩ rfl hn hsz rfl (lv_room (cs_le hW)) hdg (room_call hS hR hz)) kx kk
theorem c_SN {host : String} (C : xC G p l s m args meth c cc nL own) (hS : Sh G σ s H locs) (hR : R.cells = gL G - s.heap.size ∧ R.slots = gU G - hsum s.heap) (hsz : ls.size = nL) (hM : cM l G y (ws_ y code maxL ret) fr lo σ As pre P' PX') (hp : pre) (hcode : Cond.code y code maxL ret ∈ lw_all) (hl : Cond.methodLinkNest own idx y host ∈ lw_tbl) (hini : Cond.initialized y.cls ∈ lw_all) (hstt : Cond.static y ∈ lw_all) (hd : y.cls ≠ "java/lang/invoke/MethodHandle" ∧ y.cls ≠ "java/lang/invoke/VarHandle" ∧ (parseMethodDescriptor y.desc).map (fun d => d.parameters.length) = some n) (hroom : fr + 1 ≤ R.frames ∧ 8 + (maxL + 11) + lo ≤ R.locals) (hn : As.length = n) (hst : st0 = As.reverse ++ rest) (hW : rest.length ≤ 4) (hdg : decode cc pc = .ok (.invokestatic idx, 3))
    (kx : ∀ ci q σ' H1 locs1, PX' ci q σ' → Sh G σ' s H1 locs1 → thr G s H1 ci q → vx_W p l e R s m args below meth c H1 locs1 (σ'.2.1 - s.heap.size) (σ'.2.2 - hsum s.heap) Q (F0 m pc ls rest) q)
    (kk : ∀ v σ' H1 locs1, P' v σ' → Sh G σ' s H1 locs1 → W p l e R s m args below meth c H1 locs1 (σ'.2.1 - s.heap.size) (σ'.2.2 - hsum s.heap) Q (F0 m (pc + 3) ls (v.toList ++ rest))) : W p l e R s m args below meth c H locs cells slots Q (F0 m pc ls st0) := by
  refine W_tight hS (W_have hS fun hz => ?_)
  subst hst
  have hts := C.2.2.2.2.1
  exact r_run hS (vx_runSN ⟨C.1, C.2.1, C.2.2.1, C.2.2.2.1, C.2.2.2.2.1⟩ hM ⟨va_cnB n hts (lw_meth hcode) rfl rfl rfl (nest_w C hl) (hts _ hini) hd hroom, hts _ hstt, trivial⟩ ⟨cPre_blind G σ _ pre, cPre_at C hS hp⟩ rfl hn hsz rfl (lv_room (cs_le hW)) hdg (room_call hS hR hz)) kx kk
theorem c_IN {host : String} {r : Option Nat} (C : xC G p l s m args meth c cc nL own) (hS : Sh G σ s H locs) (hR : R.cells = gL G - s.heap.size ∧ R.slots = gU G - hsum s.heap) (hsz : ls.size = nL) (hr : ∃ b, r = some b) (hM : cM l G y (ws_ y code maxL none) fr lo σ (va_rf r :: As) pre P' PX') (hp : pre) (hcode : Cond.code y code maxL none ∈ lw_all) (hl : Cond.methodLinkNest own idx y host ∈ lw_tbl) (hini : Cond.initialized y.cls ∈ lw_all) (hin : Cond.instanceMethod y ∈ lw_all) (hy1 : y.name = "<init>") (hd : y.cls ≠ "java/lang/invoke/MethodHandle" ∧ y.cls ≠ "java/lang/invoke/VarHandle" ∧ (parseMethodDescriptor y.desc).map (fun d => d.parameters.length) = some n) (hroom : fr + 1 ≤ R.frames ∧ 8 + (maxL + 11) + lo ≤ R.locals) (hn : As.length = n) (hst : st0 = As.reverse ++ va_rf r :: rest) (hW : rest.length ≤ 4) (hdg : decode cc pc = .ok (.invokespecial idx, 3))
    (kx : ∀ ci q σ' H1 locs1, PX' ci q σ' → Sh G σ' s H1 locs1 → thr G s H1 ci q → vx_W p l e R s m args below meth c H1 locs1 (σ'.2.1 - s.heap.size) (σ'.2.2 - hsum s.heap) Q (F0 m pc ls rest) q)
    (kk : ∀ v σ' H1 locs1, P' v σ' → Sh G σ' s H1 locs1 → W p l e R s m args below meth c H1 locs1 (σ'.2.1 - s.heap.size) (σ'.2.2 - hsum s.heap) Q (F0 m (pc + 3) ls (v.toList ++ rest))) : W p l e R s m args below meth c H locs cells slots Q (F0 m pc ls st0) := by
  refine W_tight hS (W_have hS fun hz => ?_)
  subst hst
  obtain ⟨b, rfl⟩ := hr
  have hts := C.2.2.2.2.1
  exact r_run hS (vx_runIN ⟨C.1, C.2.1, C.2.2.1, C.2.2.2.1, C.2.2.2.2.1⟩ hM ⟨va_cnB n hts (lw_meth hcode) rfl rfl rfl (nest_w C hl) (hts _ hini) hd hroom, hy1, hts _ hin⟩ ⟨cPre_blind G σ _ pre, cPre_at C hS hp⟩ rfl hn hsz rfl (lv_room (cs_le hW)) hdg (room_call hS hR hz)) kx kk
/-- through a face -/
theorem face_w {Cn : String} {x : MethodName} (C : xC G p l s m args meth c cc nL own) (h1 : Cond.declares x ∈ lw_tbl) (h2 : Cond.interfaceMethod x.cls x.cls x.name x.desc ∈ lw_tbl) (h3 : Cond.publicMethod y ∈ lw_tbl) (h4 : Cond.unhidden Cn x.name x.desc ∈ lw_tbl) (h5 : Cond.castable Cn x.cls ∈ lw_tbl) (g1 : decide (x.cls ≠ "java/lang/invoke/MethodHandle") = true) (g2 : nwOk (Cond.interfaceMethod x.cls x.cls x.name x.desc) = true) : va_Fw Cn x y s := by
  have hw := C.2.2.2.2.2.2.2.1.2.1
  exact ⟨hw _ (gx h1 g1), hw _ (gx h2 g2), hw _ (gx h3 rfl), hw _ (gx h4 rfl), hw _ (gx h5 rfl)⟩
theorem c_F {ci count : Nat} {Cn : String} {T : u_T} {N : Nat} {r : Option Nat} {x : MethodName} (C : xC G p l s m args meth c cc nL own) (hS : Sh G σ s H locs) (hR : R.cells = gL G - s.heap.size ∧ R.slots = gU G - hsum s.heap) (hsz : ls.size = nL) (hc : gCL[ci]? = some (Cn, T, N)) (hr : rcv σ r ci) (hM : cM l G y (ws_ y code maxL ret) fr lo σ (va_rf r :: As) pre P' PX') (hp : pre)
    (hlk : Cond.methodLink own idx x ∈ lw_all) (hsel : Cond.selects Cn x y ∈ lw_all) (hin : Cond.instanceMethod y ∈ lw_all) (hini : Cond.initialized y.cls ∈ lw_all) (hcode : Cond.code y code maxL ret ∈ lw_all) (hF : va_Fw Cn x y s) (hxd : x.cls ≠ "java/lang/invoke/MethodHandle" ∧ x.cls ≠ "java/lang/invoke/VarHandle") (hdl : (parseMethodDescriptor x.desc).map (fun d => d.parameters.length) = some n) (hroom : fr + 1 ≤ R.frames ∧ 8 + (maxL + 11) + lo ≤ R.locals) (hn : As.length = n) (hst : st0 = As.reverse ++ va_rf r :: rest) (hW : rest.length ≤ 4) (hdg : decode cc pc = .ok (.invokeinterface idx count, 5))
    (kx : ∀ ci q σ' H1 locs1, PX' ci q σ' → Sh G σ' s H1 locs1 → thr G s H1 ci q → vx_W p l e R s m args below meth c H1 locs1 (σ'.2.1 - s.heap.size) (σ'.2.2 - hsum s.heap) Q (F0 m pc ls rest) q)
    (kk : ∀ v σ' H1 locs1, P' v σ' → Sh G σ' s H1 locs1 → W p l e R s m args below meth c H1 locs1 (σ'.2.1 - s.heap.size) (σ'.2.2 - hsum s.heap) Q (F0 m (pc + 5) ls (v.toList ++ rest))) : W p l e R s m args below meth c H locs cells slots Q (F0 m pc ls st0) := by
  refine W_tight hS (W_have hS fun hz => ?_)
  subst hst
  obtain ⟨b, fs, rfl, hb⟩ := hr
  have hts := C.2.2.2.2.1
  exact r_run5 hS (vx_runF (cell_cls C.2.2.2.2.2.2.2.1 hc) ⟨C.1, C.2.1, C.2.2.1, C.2.2.2.1, C.2.2.2.2.1⟩ hM ⟨⟨rfl, rfl, hroom.1, hroom.2, pay_in hts (lw_meth hcode), List.mem_cons_self⟩, hts _ hlk, va_any rfl hF.1, va_any rfl hF.2.1, hts _ hsel, hts _ hin, va_any rfl hF.2.2.1, va_any rfl hF.2.2.2.1, va_any rfl hF.2.2.2.2, hts _ hini, hts _ hcode, hxd, (fun sig h => by have h2 := hdl; rw [h] at h2; exact (Option.some.inj h2).symm)⟩ ⟨cPre_blind G σ _ pre, rcv_at C.2.2.2.2.2.2.2.1 hS hb hc, cPre_at C hS hp⟩ rfl hn hsz rfl (lv_room (cs_le hW)) hdg (room_call hS hR hz)) kx kk
/-- methods with handlers -/
theorem c_SX (C : xC G p l s m args meth c cc nL own) (hS : Sh G σ s H locs) (hR : R.cells = gL G - s.heap.size ∧ R.slots = gU G - hsum s.heap) (hsz : ls.size = nL) (hM : cM l G y (wsW_ y code maxL ret hh) fr lo σ As pre P' PX') (hp : pre) (hG : GoodIn lw_all (va_wsS own idx y (wsW_ y code maxL ret hh))) (hd : y.cls ≠ "java/lang/invoke/MethodHandle" ∧ y.cls ≠ "java/lang/invoke/VarHandle" ∧ (parseMethodDescriptor y.desc).map (fun d => d.parameters.length) = some n) (hroom : fr + 1 ≤ R.frames ∧ 8 + (maxL + 11) + lo ≤ R.locals) (hn : As.length = n) (hst : st0 = As.reverse ++ rest) (hW : rest.length ≤ 4) (hdg : decode cc pc = .ok (.invokestatic idx, 3))
    (kx : ∀ ci q σ' H1 locs1, PX' ci q σ' → Sh G σ' s H1 locs1 → thr G s H1 ci q → vx_W p l e R s m args below meth c H1 locs1 (σ'.2.1 - s.heap.size) (σ'.2.2 - hsum s.heap) Q (F0 m pc ls rest) q)
    (kk : ∀ v σ' H1 locs1, P' v σ' → Sh G σ' s H1 locs1 → W p l e R s m args below meth c H1 locs1 (σ'.2.1 - s.heap.size) (σ'.2.2 - hsum s.heap) Q (F0 m (pc + 3) ls (v.toList ++ rest))) : W p l e R s m args below meth c H locs cells slots Q (F0 m pc ls st0) := by
  refine W_tight hS (W_have hS fun hz => ?_)
  subst hst
  exact r_run hS (vx_runSX ⟨C.1, C.2.1, C.2.2.1, C.2.2.2.1, C.2.2.2.2.1⟩ hM (vx_cwSW n C.2.2.2.2.1 hG rfl rfl rfl hd hroom) ⟨cPre_blind G σ _ pre, cPre_at C hS hp⟩ rfl hn hsz rfl (lv_room (cs_le hW)) hdg (room_call hS hR hz)) kx kk
theorem c_VX {ci : Nat} {Cn : String} {T : u_T} {N : Nat} {r : Option Nat} (C : xC G p l s m args meth c cc nL own) (hS : Sh G σ s H locs) (hR : R.cells = gL G - s.heap.size ∧ R.slots = gU G - hsum s.heap) (hsz : ls.size = nL) (hc : gCL[ci]? = some (Cn, T, N)) (hr : rcv σ r ci) (hM : cM l G y (wsW_ y code maxL ret hh) fr lo σ (va_rf r :: As) pre P' PX') (hp : pre) (hG : GoodIn lw_all (wsV own idx Cn y (wsW_ y code maxL ret hh))) (hd : y.cls = Cn ∧ y.cls ≠ "java/lang/invoke/MethodHandle" ∧ y.cls ≠ "java/lang/invoke/VarHandle" ∧ (parseMethodDescriptor y.desc).map (fun d => d.parameters.length) = some n) (hroom : fr + 1 ≤ R.frames ∧ 8 + (maxL + 11) + lo ≤ R.locals) (hn : As.length = n) (hst : st0 = As.reverse ++ va_rf r :: rest) (hW : rest.length ≤ 4) (hdg : decode cc pc = .ok (.invokevirtual idx, 3))
    (kx : ∀ ci q σ' H1 locs1, PX' ci q σ' → Sh G σ' s H1 locs1 → thr G s H1 ci q → vx_W p l e R s m args below meth c H1 locs1 (σ'.2.1 - s.heap.size) (σ'.2.2 - hsum s.heap) Q (F0 m pc ls rest) q)
    (kk : ∀ v σ' H1 locs1, P' v σ' → Sh G σ' s H1 locs1 → W p l e R s m args below meth c H1 locs1 (σ'.2.1 - s.heap.size) (σ'.2.2 - hsum s.heap) Q (F0 m (pc + 3) ls (v.toList ++ rest))) : W p l e R s m args below meth c H locs cells slots Q (F0 m pc ls st0) := by
  refine W_tight hS (W_have hS fun hz => ?_)
  subst hst
  obtain ⟨b, fs, rfl, hb⟩ := hr
  exact r_run hS (vx_runVX ⟨C.1, C.2.1, C.2.2.1, C.2.2.2.1, C.2.2.2.2.1⟩ hM (vx_cwVW n C.2.2.2.2.1 hG rfl rfl rfl hd hroom) ⟨cPre_blind G σ _ pre, rcv_at C.2.2.2.2.2.2.2.1 hS hb hc, cPre_at C hS hp⟩ rfl hn hsz rfl (lv_room (cs_le hW)) hdg (room_call hS hR hz)) kx kk
/-- Object's own constructor -/
theorem r_objInit {r : Option Nat} (C : xC G p l s m args meth c cc nL own) (hsz : ls.size = nL) (hr : ∃ b, r = some b) (hlk : Cond.methodLink own idx objectInit ∈ lw_all) (hin : Cond.instanceMethod objectInit ∈ lw_all) (hcode : Cond.code objectInit ⟨#[0xb1]⟩ 1 none ∈ lw_all) (hrest : rest = []) (hdg : decode cc pc = .ok (.invokespecial idx, 3)) (hf : 1 ≤ R.frames) (hlo : 12 ≤ R.locals)
    (kk : W p l e R s m args below meth c H locs cells slots Q (F0 m (pc + 3) ls [])) : W p l e R s m args below meth c H locs cells slots Q (F0 m pc ls (va_rf r :: rest)) := by
  subst hrest
  obtain ⟨b, rfl⟩ := hr
  have hts := C.2.2.2.2.1
  exact W.objInit C.1 C.2.1 C.2.2.2.1 (hts _ hlk) (hts _ hin) (hts _ hcode) rfl (hsz.trans C.2.2.1.symm) rfl hdg hf hlo kk
end CALLS
