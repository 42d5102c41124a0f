/-! helpers of the printed walks -/
set_option maxRecDepth 100000
/-- typed answers -/
theorem kI {P : Int32 → hSt → Prop} {X : Option Value → hSt → Prop} (h : ∀ x z, P x z → X (some (.int x)) z) : ∀ v z, pI P v z → X v z := fun v z hv => by obtain ⟨x, rfl, hp⟩ := hv; exact h x z hp
theorem kL {P : Int64 → hSt → Prop} {X : Option Value → hSt → Prop} (h : ∀ x z, P x z → X (some (.long x)) z) : ∀ v z, pL P v z → X v z := fun v z hv => by obtain ⟨x, rfl, hp⟩ := hv; exact h x z hp
theorem q_arrI : (Jvm.Cond.arrayClass Jvm.ClassFile.FieldType.int) ∈ lw_all := lw_g (lw_at lw_m11 207 rfl) rfl
theorem q_arrJ : (Jvm.Cond.arrayClass Jvm.ClassFile.FieldType.long) ∈ lw_all := lw_g (lw_at lw_m15 90 rfl) rfl
theorem q_arrB : (Jvm.Cond.arrayClass Jvm.ClassFile.FieldType.byte) ∈ lw_all := lw_g (lw_at lw_m2 81 rfl) rfl
theorem q_arrC : (Jvm.Cond.arrayClass Jvm.ClassFile.FieldType.char) ∈ lw_all := lw_g (lw_at lw_m13 214 rfl) rfl
theorem q_arrD : (Jvm.Cond.arrayClass Jvm.ClassFile.FieldType.double) ∈ lw_all := lw_g (lw_at lw_m15 91 rfl) rfl
/-! Math.ceil, which the row of the machine does by calling StrictMath.ceil: a callee under that row -/
section CEIL
def mcRow : NativeRow := (NativeRow.find? Native.java_lang_Math.nans.rows "java/lang/Math" "ceil" "(D)D").get (by decide +kernel)
theorem mc_row (p : Program) : NativeRow.find? p.tables.natives "java/lang/Math" "ceil" "(D)D" = some mcRow := by
  cases p <;> rfl
theorem mc_over {tb : Tables} {e : Env} {T : State} {f : JFrame} {k : Class} {y : Method} {row : NativeRow} (h0 : f.pc = 0) (hk : T.vm.classes[f.method.cls]? = some k) (hi : k.name ∈ overriddenIn) (hb : k.loader = none) (hy : k.methods[f.method.idx]? = some y) (hr : NativeRow.find? tb.natives k.name y.name y.desc = some row) : overridden tb e T f = some row := by
  unfold overridden
  simp [h0, hk, hb, hy, hr]
  exact fun h => absurd hi h
theorem mc_again {tb : Tables} {e : Env} {T : State} {f : NFrame} {r : List Frame} {k : Class} {y : Method} {row : NativeRow} {o : Outcome} (hf : T.frames = .native f :: r) (hk : T.vm.classes[f.method.cls]? = some k) (hb : k.loader = none) (hy : k.methods[f.method.idx]? = some y) (hr : NativeRow.find? tb.natives k.name y.name y.desc = some row) (ha : f.answer = some o) :
    stepThread tb e T = afterNative e f r ((row.resume f.stage f.saved o).run e T) := by
  unfold stepThread
  simp only [hf, hk, hy, hr, ha, hb, Option.bind_eq_bind, Option.bind_some, Option.pure_def, Option.isNone_none, if_true]
/-- the row begins: it calls StrictMath.ceil -/
theorem mc_begin (b : UInt64) (e : Env) (T : State) {cS : ClassId} {kS : Class} {i : Nat} (hf : T.vm.findClass "java/lang/StrictMath" = some cS) (hk : T.vm.classes[cS]? = some kS) (hi : kS.init = .initialized) (hm : kS.findMethod "ceil" "(D)D" = some i) :
    ∃ acts, (mcRow.sem #[.double b]).run e T = .ctl (.call ⟨cS, i⟩ #[.double b] 1 #[]) T acts := by
  have hs : mcRow.sem #[.double b] = (do
      let c ← classNamed "java/lang/StrictMath"
      ensureInit c
      let some i := (← theClass c).findMethod "ceil" "(D)D" | modelBug ("StrictMath lacks " ++ "ceil")
      callThen ⟨c, i⟩ #[.double b] 1 #[]) := rfl
  have hw : wpRun (mcRow.sem #[.double b]) (fun _ _ _ => False) (fun c t _ => c = .call ⟨cS, i⟩ #[.double b] 1 #[] ∧ t = T) e T := by
    rw [hs]
    simp [jvm, wpRun, W.classNamed_ready hf, W.ensureInit_ready ⟨kS, hk, hi⟩, theClass, callThen, hk, hm]
    exact ⟨rfl, rfl, rfl, rfl⟩
  have h := (wpRun_iff_run _ _ _ _ _).mp hw
  cases hr : (mcRow.sem #[.double b]).run e T with
  | ok v t a => rw [hr] at h; exact h.elim
  | ctl y t a =>
    rw [hr] at h
    have h2 : y = .call ⟨cS, i⟩ #[.double b] 1 #[] ∧ t = T := by cases y <;> first | exact h | exact h.elim
    exact ⟨a, by rw [h2.1, h2.2]⟩
/-- the row ends with what it was told, no NaN -/
theorem mc_end {x : UInt64} (hn : x &&& 0x7fffffffffffffff ≤ 0x7ff0000000000000) (e : Env) (T : State) : ∃ acts, (mcRow.resume 1 #[] (.returned (some (.double x)))).run e T = .ok (some (.double x)) T acts := by
  have hs : mcRow.resume 1 #[] (.returned (some (.double x))) = (do
      let r ← anyNaN64 x
      mark "nat.java_lang_Math.ceil"
      Pure.pure (some (.double r))) := rfl
  have hw : wpRun (mcRow.resume 1 #[] (.returned (some (.double x)))) (fun v t _ => v = some (.double x) ∧ t = T) (fun _ _ _ => False) e T := by
    rw [hs]
    simp [jvm, wpRun, anyNaN64, hn]
  have h := (wpRun_iff_run _ _ _ _ _).mp hw
  cases hr : (mcRow.resume 1 #[] (.returned (some (.double x)))).run e T with
  | ok v t a => rw [hr] at h; exact ⟨a, by rw [h.1, h.2]⟩
  | ctl y t a => rw [hr] at h; cases y <;> exact h.elim
theorem mc_bytes (T : State) (F : List Frame) : (T.setFrames F).me.stackBytes = T.me.stackBytes := by
  unfold State.me State.setFrames
  simp only [Array.getElem?_modify]
  cases T.threads[T.cur]? <;> simp
/-- room under a row's frame -/
theorem mc_room {T : State} {pl : Platform} {m : MethodId} {a : Array Value} {nf : NFrame} {g : JFrame} {r : List Frame} {F L C N : Nat} (hcur : T.cur < T.threads.size) (hw : nf.words ≤ 1024)
    (h : (T.setFrames (.invoking m a :: .java g :: r)).hasRoom pl { frames := F + 1, locals := L + 1024, cells := C, slots := N } = true) :
    (T.setFrames (.invoking m a :: .native nf :: .java g :: r)).hasRoom pl { frames := F, locals := L, cells := C, slots := N } = true := by
  have hwt : Frame.weight (.native nf) = 1024 := by show max nf.words vmFrameWords = 1024; unfold vmFrameWords; omega
  simp only [State.hasRoom, Bool.and_eq_true, decide_eq_true_eq, State.frames_setFrames _ hcur, State.stackLimits_setFrames, mc_bytes, State.localsInUse, stackWeight, List.map_cons, List.sum_cons, List.length_cons, hwt] at h ⊢
  have e : (T.setFrames (.invoking m a :: .native nf :: .java g :: r)).vm = (T.setFrames (.invoking m a :: .java g :: r)).vm := rfl
  rw [e]
  obtain ⟨⟨⟨⟨a0, a1, a2, a3, a4, a5⟩, b1⟩, c1⟩, d1⟩ := h
  exact ⟨⟨⟨⟨by omega, by omega, by omega, by omega, by omega, a5⟩, b1⟩, c1⟩, d1⟩
/-- the row's frame -/
abbrev mcF (mk : MethodId) (b : UInt64) (aw : Bool) (an : Option Outcome) : NFrame := { method := mk, args := #[.double b], stage := 1, saved := #[], awaiting := aw, answer := an, words := 0 }
abbrev mcM : MethodName := ⟨"java/lang/Math", "ceil", "(D)D"⟩
abbrev mcS : MethodName := ⟨"java/lang/StrictMath", "ceil", "(D)D"⟩
/-- one call of Math.ceil out of StrictMath.ceil's contract -/
theorem mc_back {p : Program} {l : Launch} {e : Env} {R : Room} {s : State} {sargs : Array Value} {below : List Frame} {G : gE} {σ : hSt} {fr lo maxL : Nat} {code : ByteArray} {b : UInt64} {pre : Prop} {K : UInt64 → hSt → Prop}
    (hM : cM l G mcS (ws_ mcS code maxL (some .double)) fr lo σ [.double b] pre (pD fun x z => vf_n64 x ∧ K x z) (fun _ _ _ => False)) (hws : ∀ w ∈ ws_ mcS code maxL (some .double), ∀ a' U, s.WarmedH U.vm → w.before a' U = true) (hcode : Cond.code mcM prog_32_method_16_code 2 (some .double) ∈ lw_all) (hini : Cond.initialized "java/lang/StrictMath" ∈ lw_all)
    (hframes : fr + 3 ≤ R.frames) (hlocals : 8 + maxL + 11 + lo + 1100 ≤ R.locals) : vx_Back l R p e below s sargs mcM 3 8 (PreOf R (gL G - σ.2.1) (gU G - σ.2.2) (cPre G σ [.double b] pre)) (PostOf (cQ G (pD K)) (gL G - σ.2.1) (gU G - σ.2.2) (gF G)) (fun _ _ _ _ => False) := by
  intro m meth c A g ig mk a X hg hsize hdg hW hn hp
  obtain ⟨hc0, hs0, hPc⟩ := hp
  have ha : a = #[.double b] := hPc.1
  subst ha
  obtain ⟨U, Ls, c0, s0⟩ := A
  dsimp only [Pt.U, Pt.locs, Pt.cells, Pt.slots] at X hn hPc hc0 hs0 ⊢
  have hw : ∀ w ∈ ws_ mcS code maxL (some .double), w.before #[.double b] U = true := fun w hm => hws w hm _ _ X.warmed
  have hcodeM := hw _ (List.mem_cons_of_mem _ hcode)
  have hiniS := hw _ (List.mem_cons_of_mem _ hini)
  have hcodeS : (Cond.code mcS code maxL (some .double)).before #[.double b] U = true := hw _ List.mem_cons_self
  obtain ⟨methM, cM1, hmethM, hcM, -, hlM, -, hlkM, -, hsigM⟩ := Cond.code_spec hn hcodeM
  obtain ⟨kP, hkP, hkname⟩ := className_of_methodNamed hn
  obtain ⟨hmnM, hmdM⟩ := name_of_methodNamed hn hmethM
  have hxP : kP.methods[mk.idx]? = some methM := by simpa [Vm.method?, hkP] using hmethM
  have hbootP : kP.loader = none := Vm.bootOf_findClass (findClass_of_methodNamed hn) hkP
  obtain ⟨mS, hnS⟩ := Cond.code_named hcodeS
  obtain ⟨methS, cS1, hmethS, hcS, -, hlS, -, -, -, -⟩ := Cond.code_spec hnS hcodeS
  obtain ⟨kS, hkS, -⟩ := className_of_methodNamed hnS
  have hfS : U.vm.findClass "java/lang/StrictMath" = some mS.cls := findClass_of_methodNamed hnS
  have hiS : kS.init = .initialized := Cond.initialized_spec hfS hkS hiniS
  have hmS : kS.findMethod "ceil" "(D)D" = some mS.idx := by
    have h := hnS
    simp only [State.methodNamed?, Option.bind_eq_bind, Option.pure_def] at h
    rw [hfS] at h
    simp only [Option.bind_some, hkS] at h
    cases hfm : kS.findMethod "ceil" "(D)D" with
    | none => rw [hfm] at h; cases h
    | some j => rw [hfm] at h; simp at h; rw [← h]
  have h : At U g.method c below := by rw [hg]; exact X.here
  obtain ⟨g₀, hg0⟩ := Option.isSome_iff_exists.mp h.top
  obtain ⟨r, hr⟩ := State.topJava?_eq_some.mp hg0
  obtain ⟨mid, hmid⟩ := h.above
  have hcur : U.cur < U.threads.size := State.cur_lt_of_frames hr
  have htail : U.frames.tail = r := by rw [hr]; rfl
  rw [htail] at hmid
  have htop : U.setTop g = U.setFrames (.java g :: r) := State.setTop_of_frames _ hr
  have hkname' : kP.name = "java/lang/Math" := hkname
  have hmn' : methM.name = "ceil" := hmnM
  have hmd' : methM.desc = "(D)D" := hmdM
  -- Math.ceil's frame
  have hroomM : (U.calling g mk #[.double b]).hasRoom e.platform {} = true :=
    X.room_calling hsize hmethM hcM (R' := {}) (by show 0 + 1 ≤ R.frames; omega) (by rw [hlM]; show _ + (2 + 11) + 0 ≤ R.locals; omega) (by show c0 + 0 ≤ R.cells; omega) (by show s0 + 0 ≤ R.slots; omega)
  have hfull : e.platform.stackFull (U.setTop g).me (U.setTop g).frames cM1.maxLocals = false := by
    have hfc := State.frames_calling h.top g mk #[.double b]
    obtain ⟨-, r2, -, r4⟩ := State.hasRoom_stack hroomM
    rw [State.localsInUse_invoking hfc (meth := methM) (c := cM1) hmethM hcM] at r4
    rw [hfc, htail] at r2
    rw [htail] at r4
    have hw9 := stackUse_le_stackWeight (.java g :: r)
    rw [State.calling_eq h.top, State.stackLimits_setFrames] at r2 r4
    rw [htop, State.frames_setFrames _ hcur]
    refine Platform.stackFull_eq_false (by rw [State.stackLimits_setFrames]; simp only [List.length_cons] at r2 ⊢; have : ({} : Room).frames = 0 := rfl; omega) (by rw [State.stackLimits_setFrames]; have : ({} : Room).locals = 0 := rfl; omega)
  have hin : (doInvoke e (U.setTop g) [] mk #[.double b]).1 = U.setFrames (.java (entryFrame mk #[.double b] 2) :: .java g :: r) := by
    rw [(doInvoke_java (s := U.setTop g) (e := e) (acts := []) (args := #[.double b]) (meth := methM) (code := cM1) hmethM hcM hlkM hfull).1, hlM, State.pushFrame, State.frames_setTop _ hr, htop, State.setFrames_setFrames]
    rfl
  have hf1 : (U.setFrames (.java (entryFrame mk #[.double b] 2) :: .java g :: r)).frames = .java (entryFrame mk #[.double b] 2) :: .java g :: r := State.frames_setFrames _ hcur
  have hov : overridden p.tables e (U.setFrames (.java (entryFrame mk #[.double b] 2) :: .java g :: r)) (entryFrame mk #[.double b] 2) = some mcRow :=
    mc_over (k := kP) (y := methM) rfl hkP (by rw [hkname']; decide) hbootP hxP (by rw [hkname', hmn', hmd']; exact mc_row p)
  have hparams : methM.sig.parameters.length = 1 := by
    have h3 : parseMethodDescriptor "(D)D" = some methM.sig := hsigM
    rw [show parseMethodDescriptor "(D)D" = some { parameters := [.double], returnType := some .double } from by decide +kernel] at h3
    rw [← Option.some.inj h3]
    rfl
  have hb1 : (U.vm.classes[mk.cls]?.bind fun y => y.methods[mk.idx]?) = some methM := by simp [hkP, hxP]
  have hb2 : ∀ F : List Frame, ((U.setFrames F).vm.classes[mk.cls]?.bind fun y => y.methods[mk.idx]?) = some methM := fun F => hb1
  have hw1 : ((U.vm.classes[mk.cls]?).bind fun k => Option.map (fun n => upcallWords k.name n.name) k.methods[mk.idx]?).getD 0 = 0 := by simp [hkP, hxP, hkname', hmn', upcallWords]
  have hw2 : ∀ F : List Frame, (((U.setFrames F).vm.classes[mk.cls]?).bind fun k => (k.methods[mk.idx]?).map fun n => upcallWords k.name n.name).getD 0 = 0 := fun F => hw1
  have htake : ∀ n : Nat, List.take (1 + n) [Value.double b] = [Value.double b] := fun n => List.take_of_length_le (Nat.le_add_right 1 n)
  obtain ⟨acts₂, hr2⟩ := mc_begin b e (U.setFrames (.native { method := mk, args := #[.double b] } :: .java g :: r)) (cS := mS.cls) (kS := kS) (i := mS.idx) hfS hkS hiS hmS
  have hstep2 : (stepThread p.tables e (U.setFrames (.java (entryFrame mk #[.double b] 2) :: .java g :: r))).1 = (doInvoke e (U.setFrames (.native (mcF mk b true none) :: .java g :: r)) acts₂ mS #[.double b]).1 := by
    unfold stepThread
    simp only [hf1, hov]
    simp [entryFrame, argsToLocals, Value.category, argCount, hb2, hb1, hparams, htake, hr2, afterNative, hw2, hw1, State.setFrames_setFrames]
  -- StrictMath.ceil's contract
  have hfN : (U.setFrames (.native (mcF mk b true none) :: .java g :: r)).frames = (.native (mcF mk b true none) :: .java g :: mid) ++ below := by rw [State.frames_setFrames _ hcur, hmid]; rfl
  have eF : (U.setFrames (.native (mcF mk b true none) :: .java g :: r)).pushFrame (.invoking mS #[.double b]) = U.setFrames (.invoking mS #[.double b] :: .native (mcF mk b true none) :: .java g :: r) := by
    rw [State.pushFrame, State.frames_setFrames _ hcur, State.setFrames_setFrames]
  have hroomS : (U.calling g mS #[.double b]).hasRoom e.platform { frames := fr + 1, locals := lo + 1024, cells := gL G - σ.2.1, slots := gU G - σ.2.2 } = true :=
    X.room_calling hsize hmethS hcS (R' := { frames := fr + 1, locals := lo + 1024, cells := gL G - σ.2.1, slots := gU G - σ.2.2 }) (by show fr + 1 + 1 ≤ R.frames; omega) (by rw [hlS]; show _ + (maxL + 11) + (lo + 1024) ≤ R.locals; omega) hc0 hs0
  rw [State.calling_eq h.top, htail] at hroomS
  have happ : (headSpec (ws_ mcS code maxL (some .double)) { frames := fr, cells := gL G - σ.2.1, slots := gU G - σ.2.2, locals := lo }).appliesLoose mcS e.platform ((U.setFrames (.native (mcF mk b true none) :: .java g :: r)).pushFrame (.invoking mS #[.double b])) = true := by
    rw [eF]
    refine (Spec.appliesLoose_iff (State.frames_setFrames _ hcur)).mpr ⟨h.running, by simpa using h.runnable, by simpa using h.alone, hnS, rfl, State.classRipe_of (s := U.setFrames _) hkS hiS, mc_room hcur (Nat.zero_le _) hroomS, ?_⟩
    rw [Cond.before_setFrames]
    exact atoms_intro fun w hm => hws w hm _ _ X.warmed
  have hPc' : cPre G σ [.double b] pre #[.double b] ((U.setFrames (.native (mcF mk b true none) :: .java g :: r)).pushFrame (.invoking mS #[.double b])) := by
    obtain ⟨h1, h2, h3, h4, h5⟩ := hPc
    rw [eF]
    exact ⟨h1, h2, gKn.warm (s := U) (U := U.setFrames _) (State.WarmedH.refl U) h3, gKz.moved (u := U) (U := U.setFrames _) (Vm.Alike.refl U.vm) h4, Sh0.moved (u := U) (U := U.setFrames _) (Vm.Alike.refl U.vm) h5⟩
  obtain ⟨o, s₂, hsteps, hrun2, hend, hq⟩ := Steps.callFree hM p X.admits X.cas X.clock (s := U.setFrames (.native (mcF mk b true none) :: .java g :: r)) (m := mS) (args := #[.double b]) (acts := acts₂) hfN happ hPc' trivial
  rcases (show vx_Q _ _ _ _ _ _ _ _ _ from hq).symm with ⟨q, -, E, ce, L, ⟨ci, σ', r9, -, -, hx, -⟩, -⟩ | ⟨⟨v, σ', ho, ⟨x, hv, hx64, hK⟩, hsh, hF⟩, L, hfe, hL⟩
  · exact hx.elim
  subst hv
  subst ho
  rw [State.frames_setFrames _ hcur] at hend
  replace hend : s₂.frames = .native (mcF mk b false (some (.returned (some (.double x))))) :: .java g :: r := hend
  rw [eF] at hfe hF
  obtain ⟨-, hW₂, e2, q2, q3, q4, q5, q6⟩ := id hfe
  have hW' : U.WarmedH s₂.vm := hW₂
  have hal : U.vm.Alike s₂.vm := hW'.alike
  -- the row goes on, ends
  obtain ⟨k', hk', ek⟩ := hal.2.2 _ _ hkP
  obtain ⟨acts₃, hr3⟩ := mc_end hx64 e s₂
  have hcode2 : s₂.code? g.method = some c := by
    have h1 : s₂.code? g.method = U.code? g.method := by rw [State.code?_eq, State.code?_eq, hal.method?]
    rw [h1]; exact h.code
  have hfs : handOver s₂ (some (.double x)) (.java g :: r) = some (.java { g with pc := g.pc + 3, stack := .double x :: g.stack } :: r) := by
    simp [handOver, hcode2, hdg, Except.toOption]
  have hstep4 : (stepThread p.tables e s₂).1 = s₂.setFrames (.java { g with pc := g.pc + 3, stack := .double x :: g.stack } :: r) := by
    rw [mc_again (f := mcF mk b false (some (.returned (some (.double x))))) (o := .returned (some (.double x))) hend hk' (by rw [ek]; exact hbootP) (by rw [ek]; exact hxP) (by rw [show k'.name = "java/lang/Math" from by rw [ek]; exact hkname', hmn', hmd']; exact mc_row p) rfl]
    show (afterNative e _ _ ((mcRow.resume 1 #[] (.returned (some (.double x)))).run e s₂)).1 = _
    rw [hr3]
    exact doReturn_native (f := mcF mk b false (some (.returned (some (.double x))))) hend rfl hfs
  have e3 : s₂ = ({ U.setFrames s₂.frames with heap := s₂.heap, slotsUsed := s₂.slotsUsed } : State).setVm s₂.vm := by
    have h1 : s₂ = ({ s₂ with vm := (U.setFrames (.invoking mS #[.double b] :: .native (mcF mk b true none) :: .java g :: r)).vm } : State).setVm s₂.vm := rfl
    rw [e2, State.setFrames_setFrames] at h1
    exact h1
  have hcs : s₂.curStatus? = some .runnable := by
    rw [e3]
    show (U.setFrames _).curStatus? = _
    simpa using h.runnable
  have hal2 : s₂.alone = true := by
    rw [e3]
    show (U.setFrames _).alone = _
    simpa using h.alone
  have hs₂ : s₂.setFrames (.java { g with pc := g.pc + 3, stack := .double x :: g.stack } :: r) = (({ U with heap := s₂.heap, slotsUsed := s₂.slotsUsed } : State).setVm s₂.vm).setTop { g with pc := g.pc + 3, stack := .double x :: g.stack } := by
    have hr' : (({ U with heap := s₂.heap, slotsUsed := s₂.slotsUsed } : State).setVm s₂.vm).frames = .java g₀ :: r := hr
    rw [State.setTop_of_frames _ hr']
    conv => lhs; rw [e3]
    have e4 : ∀ F1 F2 : List Frame, (({ U.setFrames F1 with heap := s₂.heap, slotsUsed := s₂.slotsUsed } : State).setVm s₂.vm).setFrames F2 = (({ U with heap := s₂.heap, slotsUsed := s₂.slotsUsed } : State).setVm s₂.vm).setFrames F2 := fun F1 F2 => by
      show ({ (U.setFrames F1).setFrames F2 with heap := s₂.heap, slotsUsed := s₂.slotsUsed } : State).setVm s₂.vm = _
      rw [State.setFrames_setFrames]; rfl
    exact e4 _ _
  have hsame : U.sameButNew ({ U with heap := s₂.heap, slotsUsed := s₂.slotsUsed } : State) L (gL G - σ.2.1) (gU G - σ.2.2) := by
    refine ⟨?_, q2, q3, q4, q5, q6⟩
    obtain ⟨t, ht, -⟩ := State.frames_cons hr
    show ({ U with heap := s₂.heap, slotsUsed := s₂.slotsUsed } : State) = { U.setFrames U.frames with heap := s₂.heap, slotsUsed := s₂.slotsUsed }
    rw [State.setFrames_self ht]
  subst hg
  refine Or.inl ⟨some (.double x), ⟨(({ U with heap := s₂.heap, slotsUsed := s₂.slotsUsed } : State).setVm s₂.vm), Ls ++ L, c0 + (gL G - σ.2.1), s0 + (gU G - σ.2.2)⟩,
    ⟨X.admits, X.cas, X.clock, X.frames, X.room, X.hears, X.method, X.code, (X.here.setHeapUsed s₂.heap s₂.slotsUsed).setVm hW'.alike, X.tail, State.WarmedH.trans X.warmed hW', X.limits, X.bytes, X.same.trans (hsame.setVm s.vm)⟩,
    ⟨g, mk, s₂, L, rfl, rfl, ⟨_, σ', rfl, ⟨x, rfl, hK⟩, hsh, hF⟩, rfl, hL, rfl, rfl⟩, ?_⟩
  show Steps p.tables e below _ ((({ U with heap := s₂.heap, slotsUsed := s₂.slotsUsed } : State).setVm s₂.vm).setTop { g with pc := g.pc + 3, stack := .double x :: g.stack })
  rw [← hs₂, hin]
  refine Steps.head ⟨h.running, by simpa using h.runnable, by simpa using h.alone⟩ ⟨.java (entryFrame mk #[.double b] 2) :: .java g :: mid, by rw [hf1, hmid]; rfl, by simp, by simp⟩ ?_
  rw [hstep2]
  refine hsteps.trans ?_
  refine Steps.head ⟨hrun2, hcs, hal2⟩ ⟨.native (mcF mk b false (some (.returned (some (.double x))))) :: .java g :: mid, by rw [hend, hmid]; rfl, by simp, by simp⟩ ?_
  rw [hstep4]
  exact Steps.refl _
end CEIL
section HELP
variable {p : Program} {l : Launch} {e : Env} {R : Room} {s : State} {m : MethodId} {args : Array Value} {below : List Frame} {meth : Method} {c : Code} {H : Heap} {locs : List Loc} {cells slots : Nat} {Q : State → Prop}
variable {G : gE} {σ : hSt} {cc : ByteArray} {nL : Nat} {own : String} {pc : Nat} {ls : Array Slot} {rest : List Value}
/-- a field found through a kind below -/
theorem sf_w {ref dn fn fd : String} (C : xC G p l s m args meth c cc nL own) (h : Cond.sameField ref dn fn fd ∈ lw_all) : ∀ x, s.fieldFound? dn fn fd = some x → s.fieldFound? ref fn fd = some x := by
  have h1 := C.2.2.2.2.1 _ h
  intro x hx
  cases hi : s.fieldFound? ref fn fd with
  | none => simp [Cond.before, Cond.holds, Cond.value, hi] at h1
  | some y =>
    obtain ⟨a, k, i, f⟩ := y
    have h2 := Cond.sameField_spec hi h1
    exact h2.symm.trans hx
theorem lsw_d (ps : List (Int × Int)) (dflt x : Int) (h : x ∉ ps.map (·.1)) : Op.lookupswitch.offset ps dflt x = dflt := by
  induction ps with
  | nil => rfl
  | cons a t ih =>
    obtain ⟨k, o⟩ := a
    rw [Op.lookupswitch.offset_cons, if_neg (fun q => h (by simp [q])), ih (fun q => h (by simp [q]))]
theorem sw_out {x : Int32} {lo hi : Int} {ks : List Int32} (h : x.toInt < lo ∨ hi < x.toInt) (hk : ks.all (fun k => decide (lo ≤ k.toInt) && decide (k.toInt ≤ hi)) = true) : x ∉ ks := fun hm => by
  have h1 := List.all_eq_true.mp hk x hm
  simp at h1
  omega
theorem r_tsw {dflt lo hi : Int} {offs : Array Int} {len dt : Nat} {x : Int32} {tgts : List Nat} (C : xC G p l s m args meth c cc nL own) (hdg : decode cc pc = .ok (.tableswitch dflt lo hi offs, len)) (hd : (pc : Int) + dflt = (dt : Int)) (ho : offs.toList.map (fun o => (pc : Int) + o) = tgts.map (fun t : Nat => (t : Int))) (hn : (hi - lo + 1).toNat ≤ offs.size)
    (kk : ∀ i t : Nat, tgts[i]? = some t → x.toInt = lo + i → W p l e R s m args below meth c H locs cells slots Q (F0 m t ls rest))
    (kd : (x.toInt < lo ∨ hi < x.toInt) → W p l e R s m args below meth c H locs cells slots Q (F0 m dt ls rest)) : W p l e R s m args below meth c H locs cells slots Q (F0 m pc ls (.int x :: rest)) := by
  by_cases h : x.toInt < lo ∨ hi < x.toInt
  · exact lv_tableOut C.1 C.2.1 hdg h hd (kd h)
  · have h1 : ¬ x.toInt < lo := fun q => h (Or.inl q)
    have h2 : ¬ hi < x.toInt := fun q => h (Or.inr q)
    have hlt : (x.toInt - lo).toNat < offs.size := by omega
    have e1 : offs[(x.toInt - lo).toNat]? = some offs[(x.toInt - lo).toNat] := Array.getElem?_eq_getElem hlt
    have e2 : (offs.toList.map (fun o => (pc : Int) + o))[(x.toInt - lo).toNat]? = some ((pc : Int) + offs[(x.toInt - lo).toNat]) := by
      rw [List.getElem?_map, Array.getElem?_toList, e1]
      rfl
    rw [ho, List.getElem?_map] at e2
    obtain ⟨t, ht, hte⟩ := Option.map_eq_some_iff.mp e2
    exact lv_tableIn C.1 C.2.1 hdg h1 h2 e1 hte.symm (kk _ t ht (by omega))
theorem sw_eq {x : Int32} {k : Int} (v : Int32) (h : x.toInt = k) (hv : v.toInt = k) : x = v := Int32.toInt_inj.mp (h.trans hv.symm)
theorem r_lcmp {x y : Int64} (C : xC G p l s m args meth c cc nL own) (hdg : decode cc pc = .ok (.lcmp, 1)) (k : W p l e R s m args below meth c H locs cells slots Q (F0 m (pc + 1) ls (.int (lg_cmp x y) :: rest))) : W p l e R s m args below meth c H locs cells slots Q (F0 m pc ls (.long y :: .long x :: rest)) := W.lcmp C.1 C.2.1 hdg k
theorem sw_nl {x : Int32} (kl : List Int32) {ks : List Int} (h : ks = kl.map Int32.toInt) (hn : x ∉ kl) : x.toInt ∉ ks := fun hm => by
  rw [h] at hm
  obtain ⟨y, h1, h2⟩ := List.mem_map.mp hm
  exact hn (by rw [← Int32.toInt_inj.mp h2]; exact h1)
theorem r_newi {n : Int32} {K : Nat → hSt → Prop} (C : xC G p l s m args meth c cc nL own) (hS : Sh G σ s H locs) (hR : R.cells = gL G - s.heap.size ∧ R.slots = gU G - hsum s.heap) (hdg : decode cc pc = .ok (.newarray .int, 2)) (hw : nwA G σ 0 (.inl fun _ => 0) n K)
    (kk : ∀ q σ' H1 locs1, K q σ' → Sh G σ' s H1 locs1 → W p l e R s m args below meth c H1 locs1 (σ'.2.1 - s.heap.size) (σ'.2.2 - hsum s.heap) Q (F0 m (pc + 2) ls (va_rf (some q) :: rest))) : W p l e R s m args below meth c H locs cells slots Q (F0 m pc ls (.int n :: rest)) := r_newa (atype := .int) (ty := .int) C hS (by omega) rfl rfl (fun _ h => nomatch h) q_arrI (fun _ _ => rfl) (Nat.le_of_ble_eq_true rfl) hR hdg hw kk
theorem r_newL {n : Int32} {K : Nat → hSt → Prop} (C : xC G p l s m args meth c cc nL own) (hS : Sh G σ s H locs) (hR : R.cells = gL G - s.heap.size ∧ R.slots = gU G - hsum s.heap) (hdg : decode cc pc = .ok (.newarray .long, 2)) (hw : nwA G σ 1 (.inr (.inl fun _ => 0)) n K)
    (kk : ∀ q σ' H1 locs1, K q σ' → Sh G σ' s H1 locs1 → W p l e R s m args below meth c H1 locs1 (σ'.2.1 - s.heap.size) (σ'.2.2 - hsum s.heap) Q (F0 m (pc + 2) ls (va_rf (some q) :: rest))) : W p l e R s m args below meth c H locs cells slots Q (F0 m pc ls (.int n :: rest)) := r_newa (atype := .long) (ty := .long) C hS (by omega) rfl rfl (fun _ h => nomatch h) q_arrJ (fun _ _ => rfl) (Nat.le_of_ble_eq_true rfl) hR hdg hw kk
theorem r_newb {n : Int32} {K : Nat → hSt → Prop} (C : xC G p l s m args meth c cc nL own) (hS : Sh G σ s H locs) (hR : R.cells = gL G - s.heap.size ∧ R.slots = gU G - hsum s.heap) (hdg : decode cc pc = .ok (.newarray .byte, 2)) (hw : nwA G σ 2 (.inl fun _ => 0) n K)
    (kk : ∀ q σ' H1 locs1, K q σ' → Sh G σ' s H1 locs1 → W p l e R s m args below meth c H1 locs1 (σ'.2.1 - s.heap.size) (σ'.2.2 - hsum s.heap) Q (F0 m (pc + 2) ls (va_rf (some q) :: rest))) : W p l e R s m args below meth c H locs cells slots Q (F0 m pc ls (.int n :: rest)) := r_newa (atype := .byte) (ty := .byte) C hS (by omega) rfl rfl (fun _ h => nomatch h) q_arrB (fun _ _ => rfl) (Nat.le_of_ble_eq_true rfl) hR hdg hw kk
theorem r_newc {n : Int32} {K : Nat → hSt → Prop} (C : xC G p l s m args meth c cc nL own) (hS : Sh G σ s H locs) (hR : R.cells = gL G - s.heap.size ∧ R.slots = gU G - hsum s.heap) (hdg : decode cc pc = .ok (.newarray .char, 2)) (hw : nwA G σ 3 (.inl fun _ => 0) n K)
    (kk : ∀ q σ' H1 locs1, K q σ' → Sh G σ' s H1 locs1 → W p l e R s m args below meth c H1 locs1 (σ'.2.1 - s.heap.size) (σ'.2.2 - hsum s.heap) Q (F0 m (pc + 2) ls (va_rf (some q) :: rest))) : W p l e R s m args below meth c H locs cells slots Q (F0 m pc ls (.int n :: rest)) := r_newa (atype := .char) (ty := .char) C hS (by omega) rfl rfl (fun _ h => nomatch h) q_arrC (fun _ _ => rfl) (Nat.le_of_ble_eq_true rfl) hR hdg hw kk
theorem r_newd {n : Int32} {K : Nat → hSt → Prop} (C : xC G p l s m args meth c cc nL own) (hS : Sh G σ s H locs) (hR : R.cells = gL G - s.heap.size ∧ R.slots = gU G - hsum s.heap) (hdg : decode cc pc = .ok (.newarray .double, 2)) (hw : nwA G σ 4 (.inr (.inr (.inr (.inl fun _ => 0)))) n K)
    (kk : ∀ q σ' H1 locs1, K q σ' → Sh G σ' s H1 locs1 → W p l e R s m args below meth c H1 locs1 (σ'.2.1 - s.heap.size) (σ'.2.2 - hsum s.heap) Q (F0 m (pc + 2) ls (va_rf (some q) :: rest))) : W p l e R s m args below meth c H locs cells slots Q (F0 m pc ls (.int n :: rest)) := r_newa (atype := .double) (ty := .double) C hS (by omega) rfl rfl (fun _ h => nomatch h) q_arrD (fun _ _ => rfl) (Nat.le_of_ble_eq_true rfl) hR hdg hw kk
theorem r_mmax {index : Nat} {x y : Int32} (C : xC G p l s m args meth c cc nL own) (hS : Sh G σ s H locs) (hR : R.cells = gL G - s.heap.size ∧ R.slots = gU G - hsum s.heap) (hsz : ls.size = nL) (hlink : Cond.methodLink own index Lib.Math.max.name ∈ lw_all) (hstat : Cond.static Lib.Math.max.name ∈ lw_all) (hini : Cond.initialized "java/lang/Math" ∈ lw_all) (hcode : Cond.code Lib.Math.max.name Lib.Math.max.code 2 (some .int) ∈ lw_all)
    (hframes : 1 ≤ R.frames) (hlocals : 21 ≤ R.locals) (hW : rest.length ≤ 4) (hdg : decode cc pc = .ok (.invokestatic index, 3))
    (kk : W p l e R s m args below meth c H locs (σ.2.1 - s.heap.size) (σ.2.2 - hsum s.heap) Q (F0 m (pc + 3) ls (.int (if x < y then y else x) :: rest))) : W p l e R s m args below meth c H locs cells slots Q (F0 m pc ls (.int y :: .int x :: rest)) := by
  have hts := C.2.2.2.2.1
  have h1 := hS.1.2.2.2.1
  have h2 := hS.1.2.2.2.2.1
  exact W_tight hS (va_mmax C.1 C.2.1 (C.2.2.1.trans hsz.symm) C.2.2.2.1 (hts _ hlink) (hts _ hstat) (hts _ hini) (hts _ hcode) hframes (by have := cs_le hW; omega) (by rw [hR.1]; omega) (by rw [hR.2]; omega) hdg kk)
theorem r_mmin {index : Nat} {x y : Int32} (C : xC G p l s m args meth c cc nL own) (hS : Sh G σ s H locs) (hR : R.cells = gL G - s.heap.size ∧ R.slots = gU G - hsum s.heap) (hsz : ls.size = nL) (hlink : Cond.methodLink own index Lib.Math.min.name ∈ lw_all) (hstat : Cond.static Lib.Math.min.name ∈ lw_all) (hini : Cond.initialized "java/lang/Math" ∈ lw_all) (hcode : Cond.code Lib.Math.min.name Lib.Math.min.code 2 (some .int) ∈ lw_all)
    (hframes : 1 ≤ R.frames) (hlocals : 21 ≤ R.locals) (hW : rest.length ≤ 4) (hdg : decode cc pc = .ok (.invokestatic index, 3))
    (kk : W p l e R s m args below meth c H locs (σ.2.1 - s.heap.size) (σ.2.2 - hsum s.heap) Q (F0 m (pc + 3) ls (.int (if y < x then y else x) :: rest))) : W p l e R s m args below meth c H locs cells slots Q (F0 m pc ls (.int y :: .int x :: rest)) := by
  have hts := C.2.2.2.2.1
  have h1 := hS.1.2.2.2.1
  have h2 := hS.1.2.2.2.2.1
  exact W_tight hS (va_mmin C.1 C.2.1 (C.2.2.1.trans hsz.symm) C.2.2.2.1 (hts _ hlink) (hts _ hstat) (hts _ hini) (hts _ hcode) hframes (by have := cs_le hW; omega) (by rw [hR.1]; omega) (by rw [hR.2]; omega) hdg kk)
theorem r_ceil {index fr lo maxL : Nat} {code : ByteArray} {b : UInt64} {pre : Prop} {K : UInt64 → hSt → Prop} (C : xC G p l s m args meth c cc nL own) (hS : Sh G σ s H locs) (hR : R.cells = gL G - s.heap.size ∧ R.slots = gU G - hsum s.heap) (hsz : ls.size = nL)
    (hM : cM l G ⟨"java/lang/StrictMath", "ceil", "(D)D"⟩ (ws_ ⟨"java/lang/StrictMath", "ceil", "(D)D"⟩ code maxL (some .double)) fr lo σ [.double b] pre (pD fun x z => vf_n64 x ∧ K x z) (fun _ _ _ => False)) (hp : pre) (hlink : Cond.methodLink own index ⟨"java/lang/Math", "ceil", "(D)D"⟩ ∈ lw_all) (hstat : Cond.static ⟨"java/lang/Math", "ceil", "(D)D"⟩ ∈ lw_all) (hini : Cond.initialized "java/lang/Math" ∈ lw_all) (hcode : Cond.code ⟨"java/lang/Math", "ceil", "(D)D"⟩ prog_32_method_16_code 2 (some .double) ∈ lw_all) (hiniS : Cond.initialized "java/lang/StrictMath" ∈ lw_all) (hcodeS : Cond.code ⟨"java/lang/StrictMath", "ceil", "(D)D"⟩ code maxL (some .double) ∈ lw_all)
    (hframes : fr + 3 ≤ R.frames) (hlocals : 8 + maxL + 11 + lo + 1100 ≤ R.locals) (hW : rest.length ≤ 4) (hdg : decode cc pc = .ok (.invokestatic index, 3))
    (kk : ∀ x σ' H1 locs1, K x σ' → Sh G σ' s H1 locs1 → W p l e R s m args below meth c H1 locs1 (σ'.2.1 - s.heap.size) (σ'.2.2 - hsum s.heap) Q (F0 m (pc + 3) ls (.double x :: rest))) : W p l e R s m args below meth c H locs cells slots Q (F0 m pc ls (.double b :: rest)) := by
  refine W_tight hS (W_have hS fun hz => ?_)
  have hts := C.2.2.2.2.1
  have hf := room_call hS hR hz
  have hws := pay_in hts (lw_meth hcodeS)
  have hp' := cPre_at (vals := [.double b]) (pre := pre) C hS hp
  have hrun : vx_Run p l e R s m args below meth c H locs (σ.2.1 - s.heap.size) (σ.2.2 - hsum s.heap) (gL G - σ.2.1) (gU G - σ.2.2) (F0 m pc ls (.double b :: rest)) rest (cQ G (pD K) #[.double b]) (cX G fun _ _ _ => False) (gF G) := by
    intro T hT X
    rcases vx_callS X C.1 (bytes := prog_32_method_16_code) (maxL := 2) (ret := some .double) C.2.2.2.1 (hts _ hlink) (hts _ hstat) (hts _ hini) (hts _ hcode) (by decide) (mc_back hM hws hcode hiniS hframes hlocals) (g := F0 m pc ls (.double b :: rest)) rfl (hsz.trans C.2.2.1.symm) (argsL := [.double b]) (rest := rest)
      (fun sig h => by rw [show parseMethodDescriptor "(D)D" = some { parameters := [.double], returnType := some .double } from by decide +kernel] at h; rw [← Option.some.inj h]; rfl) rfl (lv_room (cs_le hW)) (by rw [C.2.1]; exact hdg)
      (fun vm₁ hW₁ => ⟨hf.1, hf.2, hp' (T.setVm vm₁) hT hW₁⟩) with ⟨v, vm₁, ⟨U', l2, c2, s2⟩, hW₁, X', ⟨g', mk, t, L, e1, e2, hq, h1, hL, h2, h3⟩, st⟩ | ⟨q, vm₁, B, hW₁, X', hx, st⟩
    · dsimp only [Pt.U, Pt.locs, Pt.cells, Pt.slots] at X' e1 e2 h1 h2 h3 st
      subst h1; subst h2; subst h3
      exact Or.inl ⟨v, (T.setVm vm₁).calling g' mk #[.double b], t, U', L, hT, X', hL, e1, e2, hq, st⟩
    · exact hx.elim
  refine r_run hS hrun (fun _ _ _ _ _ h => h.elim) (fun v σ' H1 locs1 hv hS' => ?_)
  obtain ⟨x, rfl, hK⟩ := hv
  exact kk x σ' H1 locs1 hK hS'
end HELP
/-- kinds of arrays of references -/
def arL : List Nat := [5, 6, 7, 8, 9]
theorem arL_ok : ∀ ti ∈ arL, ∀ ty, gTY[ti]? = some ty → ty.isReference = true := by
  intro ti h ty ht
  have h5 : ti = 5 ∨ ti = 6 ∨ ti = 7 ∨ ti = 8 ∨ ti = 9 := by simpa [arL] using h
  rcases h5 with rfl | rfl | rfl | rfl | rfl <;> (cases ht; rfl)
-- ===== printed =====
theorem lw_SU {own : String} {idx : Nat} {y : MethodName} {b : ByteArray} {L : Nat} {r : Option FieldType} (h1 : Cond.methodLink own idx y ∈ lw_all) (h2 : Cond.sameMethod y.cls y.cls y.name y.desc ∈ lw_all) (h3 : Cond.superclass own y.cls ∈ lw_all) (h4 : Cond.instanceMethod y ∈ lw_all) (h5 : Cond.initialized y.cls ∈ lw_all) (h6 : Cond.code y b L r ∈ lw_all) : GoodIn lw_all (va_wsSU own idx y (ws_ y b L r)) := by
  refine lw_app ?_ (lw_meth h6)
  intro w hw
  simp only [List.mem_cons, List.not_mem_nil, or_false] at hw
  rcases hw with e | e | e | e | e
  · rw [e]; exact h1
  · rw [e]; exact h2
  · rw [e]; exact h3
  · rw [e]; exact h4
  · rw [e]; exact h5
abbrev nnl (r : Option Nat) : Prop := ∃ b, r = some b
def asLT : List (Nat × List Nat) := [(5, [1, 6, 7]), (6, [26, 27]), (7, [2]), (8, [3])]
theorem qc_0 : (Jvm.Cond.castable "ExcuseLedger$Ledger" "java/lang/Object") ∈ lw_tbl := lw_at lw_m15 138 rfl
theorem qc_1 : (Jvm.Cond.castable "ExcuseLedger$Command" "java/lang/Object") ∈ lw_tbl := lw_at lw_m15 149 rfl
theorem qc_2 : (Jvm.Cond.castable "ExcuseLedger$Excuse" "java/lang/Object") ∈ lw_tbl := lw_at lw_m15 158 rfl
theorem qc_3 : (Jvm.Cond.castable "java/util/LinkedHashMap$Entry" "java/util/HashMap$Node") ∈ lw_tbl := lw_at lw_m15 178 rfl
theorem acL_ok : ∀ ci ∈ acL, ∃ r : vw_C, gCL[ci]? = some r ∧ Cond.castable r.1 "java/lang/Object" ∈ lw_tbl := List.forall_mem_cons.mpr ⟨⟨_, rfl, qc_0⟩, List.forall_mem_cons.mpr ⟨⟨_, rfl, qc_1⟩, List.forall_mem_singleton.mpr ⟨_, rfl, qc_2⟩⟩⟩
theorem asLT_ok : ∀ q ∈ asLT, q.1 < 9 ∧ ∃ E, gTY[q.1]? = some (.object E) ∧ ∀ ci ∈ q.2, ∃ r : vw_C, gCL[ci]? = some r ∧ (r.1 = E ∨ Cond.castable r.1 E ∈ lw_tbl) :=
  List.forall_mem_cons.mpr ⟨⟨by decide, _, rfl, List.forall_mem_cons.mpr ⟨⟨_, rfl, Or.inr qc_0⟩, List.forall_mem_cons.mpr ⟨⟨_, rfl, Or.inr qc_1⟩, List.forall_mem_singleton.mpr ⟨_, rfl, Or.inr qc_2⟩⟩⟩⟩,
  List.forall_mem_cons.mpr ⟨⟨by decide, _, rfl, List.forall_mem_cons.mpr ⟨⟨_, rfl, Or.inl rfl⟩, List.forall_mem_singleton.mpr ⟨_, rfl, Or.inr qc_3⟩⟩⟩,
  List.forall_mem_cons.mpr ⟨⟨by decide, _, rfl, List.forall_mem_singleton.mpr ⟨_, rfl, Or.inl rfl⟩⟩, List.forall_mem_singleton.mpr ⟨by decide, _, rfl, List.forall_mem_singleton.mpr ⟨_, rfl, Or.inl rfl⟩⟩⟩⟩⟩
theorem exa8 : ∀ w ∈ (exA "ExcuseLedger$Refusal" 1 "java/lang/Exception" [] "ExcuseLedger$Refusal" 8).filter vx_no, w ∈ lw_tbl ∧ anyOk w = true := xw_in _ [84, 736, 745, 756, 759, 761, 737, 738, 140, 141, 739, 744, 757, 774, 726, 775, 728, 776, 730, 740, 742, 732, 769, 770, 771, 737, 721, 2035, 2024, 2026, 748, 2027, 2028, 2029, 772, 734, 2031] rfl (by decide +kernel)
section
variable {p : Program} {l : Launch} {e : Env} {R : Room} {s : State} {m : MethodId} {args : Array Value} {below : List Frame} {meth : Method} {c : Code} {H : Heap} {locs : List Loc} {cells slots : Nat} {Q : State → Prop}
variable {G : gE} {σ : hSt} {cc : ByteArray} {nL : Nat} {pc : Nat} {ls : Array Slot} {rest : List Value}
theorem r_exi8 {r : Option Nat} {K : hSt → Prop} (C : xC G p l s m args meth c cc nL "ExcuseLedger$Refusal") (hS : Sh G σ s H locs) (hsz : ls.size = nL) (hdg : decode cc pc = .ok (.invokespecial 1, 3)) (hfr : 3 < R.frames) (hlo : 8 + 55 ≤ R.locals) (hW : rest.length ≤ 3) (hw : exI G σ r 8 K)
    (kk : ∀ σ' H1 locs1, K σ' → Sh G σ' s H1 locs1 → W p l e R s m args below meth c H1 locs1 (σ'.2.1 - s.heap.size) (σ'.2.2 - hsum s.heap) Q (F0 m (pc + 3) ls rest)) : W p l e R s m args below meth c H locs cells slots Q (F0 m pc ls (va_rf r :: rest)) :=
  r_exinit (cls := "java/lang/Exception") (names := []) C hS hsz (by decide) (kd := "ExcuseLedger$Refusal") (T0 := TX9) (N := 8) rfl in_X9 tyX9_ok nmX9 (by decide) rfl rfl rfl rfl (by decide +kernel) (fun _ h => absurd h List.not_mem_nil) exa8 hfr hlo hW hdg hw kk
end
theorem exa11 : ∀ w ∈ (exA "ExcuseLedger$BadText" 1 "java/lang/Exception" [] "ExcuseLedger$BadText" 7).filter vx_no, w ∈ lw_tbl ∧ anyOk w = true := xw_in _ [84, 736, 745, 756, 759, 761, 737, 738, 140, 141, 739, 744, 757, 774, 726, 775, 728, 776, 730, 740, 742, 732, 769, 770, 771, 737, 721, 3027, 3016, 3018, 747, 3019, 3020, 3021, 772, 734, 3023] rfl (by decide +kernel)
section
variable {p : Program} {l : Launch} {e : Env} {R : Room} {s : State} {m : MethodId} {args : Array Value} {below : List Frame} {meth : Method} {c : Code} {H : Heap} {locs : List Loc} {cells slots : Nat} {Q : State → Prop}
variable {G : gE} {σ : hSt} {cc : ByteArray} {nL : Nat} {pc : Nat} {ls : Array Slot} {rest : List Value}
theorem r_exi11 {r : Option Nat} {K : hSt → Prop} (C : xC G p l s m args meth c cc nL "ExcuseLedger$BadText") (hS : Sh G σ s H locs) (hsz : ls.size = nL) (hdg : decode cc pc = .ok (.invokespecial 1, 3)) (hfr : 3 < R.frames) (hlo : 8 + 55 ≤ R.locals) (hW : rest.length ≤ 3) (hw : exI G σ r 11 K)
    (kk : ∀ σ' H1 locs1, K σ' → Sh G σ' s H1 locs1 → W p l e R s m args below meth c H1 locs1 (σ'.2.1 - s.heap.size) (σ'.2.2 - hsum s.heap) Q (F0 m (pc + 3) ls rest)) : W p l e R s m args below meth c H locs cells slots Q (F0 m pc ls (va_rf r :: rest)) :=
  r_exinit (cls := "java/lang/Exception") (names := []) C hS hsz (by decide) (kd := "ExcuseLedger$BadText") (T0 := TX12) (N := 7) rfl in_X12 tyX12_ok nmX12 (by decide) rfl rfl rfl rfl (by decide +kernel) (fun _ h => absurd h List.not_mem_nil) exa11 hfr hlo hW hdg hw kk
end
def lawP : Int32 → hSt → Prop := fun x _ => x = 1
def lawX : Nat → Nat → hSt → Prop := fun _ _ _ => False
def lawC (G : gE) (s : State) (args : Array Value) : Prop := (∃ b, args = #[Value.ref b]) ∧ ∀ a, ¬ gX G a → s.heap.size ≤ a
def lw_Q (_ : Array Value) (s : State) (o : Outcome) (t : State) : Prop := o = .returned (some (.int 1)) ∧ Framed s o t [] 1200144 5496826
def lw_Z (below : List Frame) (a : Array Value) (s : State) : State → Prop := fun t => ∃ o, t.status = .running ∧ Ended t below o ∧ lw_Q a s o t
theorem r_lawret {p : Program} {l : Launch} {e : Env} {s : State} {m : MethodId} {args : Array Value} {below : List Frame} {meth : Method} {c : Code} {H : Heap} {locs : List Loc} {cells slots : Nat} {G : gE} {σ : hSt} {cc : ByteArray} {nL pc : Nat} {own : String} {ls : Array Slot} {x : Int32} (C : xC G p l s m args meth c cc nL own) (hS : Sh G σ s H locs) (hmc : room_1.cells = gL G - s.heap.size ∧ room_1.slots = gU G - hsum s.heap) (hr : meth.sig.returnType = ret) (hL : lawC G s args) (hdg : decode cc pc = .ok (.ireturn, 1)) (hw : lawP x σ) : W p l e room_1 s m args below meth c H locs cells slots (lw_Z below args s) (F0 m pc ls [.int x]) := by
  obtain ⟨⟨b, rfl⟩, hX⟩ := hL
  have hx : x = 1 := hw
  subst hx
  refine W_tight hS ?_
  intro T hT X0
  have X1 := Stand.forget (locs := []) X0 (fun y hy => hX _ (hS.2.2.2 y hy))
  have h1 := hS.1.2.2.2.1
  have h2 := hS.1.2.2.2.2.1
  have X : Stand p l e room_1 s m #[Value.ref b] below meth c T [] 1200144 5496826 := { X1 with same := X1.same.mono (by have := hmc.1; have h9 : room_1.cells = 1200144 := rfl; omega) (by have := hmc.2; have h9 : room_1.slots = 5496826 := rfl; omega) }
  obtain ⟨fs, hret, hrun, hended, hW, hframe⟩ := X.leave (v := some (.int 1)) (hlocks := C.2.2.2.2.2.1) (fun h => by rw [hr] at h; cases h)
  have hmeth' : T.vm.method? m = some meth := X.method'
  have hxe := C.1
  have hb := C.2.1
  refine ⟨T.setFrames fs, ?_, .returned (some (.int 1)), hrun, hended, rfl, ⟨_, rfl⟩, hW, hframe⟩
  jvm_step X.here [X.here.top, hxe, hb, hdg, hmeth', hr, ret, narrow_b1]
  (try refine ⟨rfl, ?_⟩); (try refine ⟨rfl, ?_⟩)
  first | (intro acts; rw [hret _ acts rfl rfl rfl]) | rw [hret _ _ rfl rfl rfl]
  exact Steps.refl _
