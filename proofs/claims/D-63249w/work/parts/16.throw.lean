set_option maxRecDepth 100000
/-! ===== exceptions: the search of a handler table whose classes may not be resolved yet ===== -/
/-- what the search gives, and the state in which it ends -/
def FindsV (e : Env) (s : State) (f : JFrame) (a : Addr) (h : Handler) (s' : State) : Prop := ∀ (Q : Handler → Pre) (E : CtlPost) (d : Bool) (acts : List Action), wp (findHandler f a) Q E e d acts s ↔ Q h d acts s'
theorem go_cold {e : Env} {s : State} {f : JFrame} {a : Addr} {x : ExceptionTableEntry} {t : List ExceptionTableEntry} {c : ClassId} {vm' : Vm} {Q : Handler → Pre} {E : CtlPost} {d : Bool} {acts : List Action} (hx : covers x f.pc = true) (h0 : x.catchType ≠ 0)
    (hg : (Jvm.resolveClass f.method.cls x.catchType).Gives e.toSetting s.vm (.ok c) vm') (hr : vm'.classReady f.method.cls x.catchType c) (hsz : vm'.classes.size ≤ s.vm.classes.size) :
    wp (findHandler.go f a (x :: t)) Q E e d acts s ↔ wp (findHandler.go f a (x :: t)) Q E e d acts (s.setVm vm') := by
  obtain ⟨ha, ht⟩ := hg.op (op := VmOp.resolveClass f.method.cls x.catchType) rfl
  obtain ⟨k, hkd, hres⟩ := hr
  obtain ⟨ha2, ht2⟩ := resolveClass_memo e (vm := vm') hkd hres
  simp only [covers] at hx
  simp [findHandler.go, hx, h0, ha, ht, ha2, ht2, hsz, VmOp.dirties, VmOp.acts]
  exact Iff.rfl
/-! ===== contracts of methods that throw ===== -/
/-- what holds where a method has been left by an exception at the cell x -/
def TE_ (D : Dx_) (B mc ms : Nat) (Q : Nat → Mem → Prop) (st : State) (x : Addr) (t : State) : Prop :=
  (∃ u, Q (x + 1) u ∧ Rep_ D B u t.heap) ∧ va_F (fun q => B ≤ q) st t ∧ st.WarmedH t.vm ∧ ∃ L, st.sameButNew ({ t with vm := st.vm } : State) L mc ms ∧ ∀ q ∈ L, B ≤ q.base
/-- A CONTRACT: y called with av on the memory u throws; Q of the exception's address and of the memory behind it -/
def Th_ (l : Launch) (y : MethodName) (cc : ByteArray) (nL : Nat) (ret : Option FieldType) (d mc ms : Nat) (av : List AV) (u : Mem) (Q : Nat → Mem → Prop) : Prop :=
  ∀ (D : Dx_) (B : Nat), MetFree l y (headSpec (ws_ y cc nL ret) (Rm_ d mc ms)) (va_Pc (av.map tV) (fun U => B ≤ U.heap.size ∧ KK_ D B U ∧ Rep_ D B u U.heap)) (fun _ _ _ _ _ => True)
    (fun _ st o t => ∃ x, o = .threw x ∧ TE_ D B mc ms Q st x t)
def OkT_ (X : Ctx_) (mc ms : Nat) (Q : Nat → Mem → Prop) : Prop := match X with
  | (_, _, _, _, s, _, _, below, _, c, D, B, F) => c.exceptionTable.isEmpty = true ∧ ∀ (t : State) (x : Addr), t.status = .running → Ended t below (.threw x) → TE_ D B mc ms Q s x t → F t
theorem Th_of {l : Launch} {y : MethodName} {cc : ByteArray} {nL : Nat} {ret : Option FieldType} {d mc ms : Nat} {av : List AV} {u : Mem} {Q : Nat → Mem → Prop} (hy : plainName y.cls = true) (hn : (entc_ av).length ≤ nL)
    (body : ∀ X : Ctx_, Ok_ X y.cls cc ret d mc ms (fun _ _ => False) → OkT_ X mc ms Q → La_ X = l → Nl_ X nL → Z X 0 (ent_ av nL) [] u 0 0) : Th_ l y cc nL ret d mc ms av u Q := by
  intro D B
  refine MetFree.of_bodyS (code := cc) (maxLocals := nL) (ret := ret) hy ?_ ?_
  · intro args s m h hn
    obtain ⟨meth, c, h1, h2, h3, h4, h5, h6, -, -⟩ := Cond.code_spec hn (atoms_spec (ws := ws_ y cc nL ret) h _ List.mem_cons_self)
    exact ⟨meth, c, h1, h2, h3, h4, h5, h6⟩
  · intro p e s m args below meth c s₁ Bd hml hv _
    obtain ⟨rfl, hB, hK, hR⟩ := hv
    have hts := atoms_spec (ws := ws_ y cc nL ret) Bd.pre
    have hne := Bd.noHandlers (hts _ List.mem_cons_self)
    have hh0 : s₁.heap = s.heap := by rw [Bd.state]; rfl
    have h := body (p, l, e, Rm_ d mc ms, s, m, (av.map tV).toArray, below, meth, c, D, B, fun t => ∃ x, t.status = .running ∧ Ended t below (.threw x) ∧ TE_ D B mc ms Q s x t)
      ⟨Bd.exec, Bd.bytes, Bd.returns, Bd.notSynchronized, findClass_of_methodNamed Bd.named, fun w h => hts w (List.mem_cons_of_mem _ h), hK, hB, rfl, fun t h => by
        obtain ⟨o, -, -, ⟨⟨r, u, -, hf, -⟩, -⟩, -⟩ := h
        exact hf.elim⟩ ⟨hne, fun t x h1 h2 h3 => ⟨x, h1, h2, h3⟩⟩ rfl hml
    have h2 := h s.heap [] _ hR va_S.rf (ent_Lv av hn)
    rw [← hh0] at h2
    rw [lg_entry_eq]
    obtain ⟨t, g1, x, g2, g3, g4⟩ := h2 s₁ rfl (Stand.of_body Bd)
    exact ⟨t, .threw x, g1, g2, g3, x, rfl, g4⟩
section THROW
variable {p : Program} {l : Launch} {e : Env} {R : Room} {s : State} {m : MethodId} {args : Array Value} {below : List Frame} {meth : Method} {c : Code} {T : State} {locs : List Loc} {cells slots : Nat}
/-- the call of a method that throws -/
theorem th_run (X : Stand p l e R s m args below meth c T locs cells slots) {y : MethodName} {bytes : ByteArray} {maxL : Nat} {ret : Option FieldType} {d' mc' ms' : Nat} {av : List AV} {u : Mem} {Q : Nat → Mem → Prop} {D : Dx_} {B : Nat}
    (hM : Th_ l y bytes maxL ret d' mc' ms' av u Q) {g : JFrame} (hg : g.method = m) (hsize : g.locals.size = c.maxLocals) {ig : Instr} {len : Nat} (hdg : decode c.code g.pc = .ok (ig, len)) (hW : 2 * g.monitorRoom + (g.stack.map fun v => v.category).sum ≤ 8) {mk : MethodId} (hn : T.methodNamed? y = some mk)
    (hws : ∀ w ∈ ws_ y bytes maxL ret, w.before (av.map tV).toArray T = true) (hini : (Cond.initialized y.cls).before (av.map tV).toArray T = true) (hfr : d' + 1 ≤ R.frames) (hlo : 8 + (maxL + 11) + 40 * d' ≤ R.locals) (hc : cells + mc' ≤ R.cells) (hs : slots + ms' ≤ R.slots)
    (hB : B ≤ T.heap.size) (hK : KK_ D B T) (hR : Rep_ D B u T.heap) :
    ∃ (x : Addr) (u' : Mem) (T' : State) (L : List Loc), Stand p l e R s m args below meth c T' (locs ++ L) (cells + mc') (slots + ms') ∧ (∀ q ∈ L, B ≤ q.base) ∧ Q (x + 1) u' ∧ Rep_ D B u' T'.heap ∧ T.heap.size ≤ T'.heap.size ∧ (∀ q : Nat, q < T.heap.size → ¬ B ≤ q → T'.heap[q]? = T.heap[q]?) ∧
      Steps p.tables e below (doInvoke e (T.setTop g) [] mk (av.map tV).toArray).1 ((T'.setTop g).pushFrame (.throwing x)) := by
  have h2 := hws _ List.mem_cons_self
  obtain ⟨methY, cY, hmY, hcY, -, hlY, -, -, -, -⟩ := Cond.code_spec hn h2
  obtain ⟨kY, hkY, -⟩ := className_of_methodNamed hn
  have hinitY : kY.init = .initialized := Cond.initialized_spec (findClass_of_methodNamed hn) hkY hini
  have h : At T g.method c below := by rw [hg]; exact X.here
  have happ : (headSpec (ws_ y bytes maxL ret) (Rm_ d' mc' ms')).appliesLoose y e.platform (T.calling g mk (av.map tV).toArray) = true :=
    Spec.appliesLoose_calling (g := g) h hdg hn hkY hinitY (X.room_calling (g := g) (R' := Rm_ d' mc' ms') hsize hmY hcY hfr (by rw [hlY]; show _ + 40 * d' ≤ _; omega) hc hs) (atoms_intro hws)
  obtain ⟨mid, hmid⟩ := h.above
  have hfr' : (T.setTop g).frames = (.java g :: mid) ++ below := by rw [State.frames_setTop' g h.top, hmid]; rfl
  obtain ⟨o, s₂, hsteps, -, hend, x, rfl, ⟨u', hq, hR'⟩, hF, hW', L, hsame, hL⟩ := Steps.callFree (hM D B) p X.admits X.cas X.clock (acts := []) hfr' happ (pre_blind _ T g mk ⟨rfl, hB, hK, hR⟩) trivial
  rw [State.frames_setTop' g h.top, X.tail] at hend
  obtain ⟨T', X', -, -, ht⟩ := X.outOfThrown hg hend hW' hsame
  have hheap : s₂.heap = T'.heap := by rw [ht]; exact Stand.throwing_heap T' g x
  refine ⟨x, u', T', L, X', hL, hq, by rw [← hheap]; exact hR', by rw [← hheap]; exact hF.1, fun q h1 h2 => by rw [← hheap]; exact hF.2 q h1 h2, ?_⟩
  rw [← ht]
  exact hsteps
end THROW
section CALLT
variable {X : Ctx_} {own : String} {cc : ByteArray} {ret : Option FieldType} {d mc ms : Nat} {pc : Nat} {ls : List (Option AV)} {st : List AV} {u : Mem} {cu su : Nat}
  {y : MethodName} {bytes : ByteArray} {maxL : Nat} {rt : Option FieldType} {d' mc' ms' : Nat} {av : List AV} {Q0 : Option AV → Mem → Prop} {Q Q' : Nat → Mem → Prop}
/-- a context in which exceptions go out: what is owed behind a thrown call -/
theorem z_out {p : Program} {l : Launch} {e : Env} {R : Room} {s : State} {m : MethodId} {args : Array Value} {below : List Frame} {meth : Method} {c : Code} {D : Dx_} {B : Nat} {F : State → Prop}
    (hT : OkT_ (p, l, e, R, s, m, args, below, meth, c, D, B, F) mc ms Q) (hlk : meth.locks = false) {T' : State} {locs : List Loc} (X : Stand p l e R s m args below meth c T' locs cu su) (hcu : cu ≤ mc) (hsu : su ≤ ms) {g : JFrame} (hg : g.method = m) (hlocked : g.locked = none) (hentered : g.entered = [])
    {x : Addr} {u' : Mem} (hq : Q (x + 1) u') (hR : Rep_ D B u' T'.heap) (hS : va_S (fun q => B ≤ q) s.heap T'.heap locs) : ∃ t, Steps p.tables e below ((T'.setTop g).pushFrame (.throwing x)) t ∧ F t := by
  obtain ⟨hne, hF⟩ := hT
  obtain ⟨h1, h2, h3, h4, h5⟩ := (stand_widen X hcu hsu).leaveThrown x hg hlocked hentered (covers_of_empty hne _) hlk
  refine ⟨_, h1, hF _ x h2 h3 ⟨⟨u', hq, hR⟩, hS.F rfl, h4, locs, h5, hS.2.2⟩⟩
theorem z_callST (ho : Ok_ X own cc ret d mc ms Q0) (hT : OkT_ X mc ms Q) {n idx : Nat} (hN : Nl_ X ls.length) (hM : Th_ (La_ X) y bytes maxL rt d' mc' ms' av u Q') (h1 : Cond.methodLink own idx y ∈ lw_all) (h2 : Cond.static y ∈ lw_all) (h3 : Cond.initialized y.cls ∈ lw_all) (h4 : Cond.code y bytes maxL rt ∈ lw_all) (hy : y.cls ≠ "java/lang/invoke/MethodHandle" ∧ y.cls ≠ "java/lang/invoke/VarHandle") (hlen : (parseMethodDescriptor y.desc).map (fun d => d.parameters.length) = some n) (hn : av.length = n) (hml : maxL ≤ 21)
    (hdp : d' + 1 ≤ d) (hd : decode cc pc = .ok (.invokestatic idx, 3)) (hcat : (st.map catA).sum ≤ 8) (hcm : cu + mc' ≤ mc) (hsm : su + ms' ≤ ms) {stk : List AV} (hstk : stk = av.reverse ++ st) (kk : ∀ (x : Nat) (u' : Mem), Q' x u' → Q x u') : Z X pc ls stk u cu su := by
  subst hstk
  obtain ⟨p, l, e, R, s, m, args, below, meth, c, D, B, F⟩ := X
  intro H locs la hR hS hL T hTe Y
  have hpre := z_pre (av := av) ho hR hS
  obtain ⟨hx, hb, hret, hlk, hown, hts, hK, hB, hRm, hF⟩ := ho
  subst hRm
  obtain ⟨mk, hnamed⟩ := Cond.code_named (hts _ h4)
  obtain ⟨methM, cM, hmethM, -, -, -, -, -, -, hsigM⟩ := Cond.code_spec hnamed (hts _ h4)
  have hstatic : methM.isStatic = true := Cond.static_spec hnamed hmethM (hts _ h2)
  obtain ⟨kP, hkP, -⟩ := className_of_methodNamed hnamed
  have hinitP : kP.init = .initialized := Cond.initialized_spec (findClass_of_methodNamed hnamed) hkP (hts _ h3)
  have hlenM : (av.map tV).length = methM.sig.parameters.length := by
    rw [hsigM] at hlen
    rw [List.length_map, hn]
    exact (Option.some.inj hlen).symm
  obtain ⟨vm₁, Y₁, hstep₁⟩ := Y.invokestatic hx hown (hts _ h1) hnamed hmethM hstatic hkP hinitP hy (g := F0 m pc la ((av.reverse ++ st).map tV)) rfl (argsL := av.map tV) (rest := st.map tV) hlenM (by simp) (by rw [hb]; exact hd)
  obtain ⟨-, g1, g2, g3⟩ := hpre (T.setVm vm₁) hTe Y₁.warmed
  obtain ⟨x, u', T', L, X', hL', hq, hR', hz, hk, hst⟩ := th_run Y₁ hM (g := { F0 m pc la ((av.reverse ++ st).map tV) with stack := st.map tV }) rfl (hL.1.trans hN.symm) (by rw [hb]; exact hd) (by rw [rV_map]; show 2 * 0 + _ ≤ 8; omega) (Y₁.named hnamed)
    (fun w hw => pay_in hts (lw_meth h4) w hw _ _ Y₁.warmed) (pay_in hts (lw_good (ws := [Cond.initialized y.cls]) (fun w hw => by rw [List.mem_singleton.mp hw]; exact h3)) _ List.mem_cons_self _ _ Y₁.warmed) hdp (by show _ ≤ 40 * d; omega) hcm hsm g1 g2 g3
  have hTh : (T.setVm vm₁).heap = H := hTe
  rw [hTh] at hz hk
  have hS' : va_S (fun q => B ≤ q) s.heap T'.heap (locs ++ L) := ⟨Nat.le_trans hS.1 hz, fun q h1 h2 => by rw [hk q (Nat.lt_of_lt_of_le h1 hS.1) h2]; exact hS.2.1 q h1 h2, fun q hq => by
      rcases List.mem_append.mp hq with h | h
      · exact hS.2.2 q h
      · exact hL' q h⟩
  obtain ⟨t, a1, a2⟩ := z_out hT hlk X' hcm hsm (g := { F0 m pc la ((av.reverse ++ st).map tV) with stack := st.map tV }) rfl rfl rfl (kk _ _ hq) hR' hS'
  exact ⟨t, hstep₁ _ fun acts => by rw [doInvoke_state]; exact hst.trans a1, a2⟩
theorem z_callVT (ho : Ok_ X own cc ret d mc ms Q0) (hT : OkT_ X mc ms Q) {n idx b K : Nat} {C : String} {TT : u_T} {N : Nat} (hN : Nl_ X ls.length) (hM : Th_ (La_ X) y bytes maxL rt d' mc' ms' (aR b :: av) u Q') (hc : cls_[K]? = some (C, TT, N)) (hK0 : K ≠ 0 ∧ K < 100) (hkb : kd_ u b = K) (h1 : Cond.methodLink own idx y ∈ lw_all) (h2 : Cond.instanceMethod y ∈ lw_all) (h3 : Cond.selects C y y ∈ lw_all) (h3b : Cond.initialized y.cls ∈ lw_all) (h4 : Cond.code y bytes maxL rt ∈ lw_all) (hy : y.cls ≠ "java/lang/invoke/MethodHandle" ∧ y.cls ≠ "java/lang/invoke/VarHandle") (hlen : (parseMethodDescriptor y.desc).map (fun d => d.parameters.length) = some n) (hn : av.length = n) (hml : maxL ≤ 21)
    (hdp : d' + 1 ≤ d) (hd : decode cc pc = .ok (.invokevirtual idx, 3)) (hcat : (st.map catA).sum ≤ 8) (hcm : cu + mc' ≤ mc) (hsm : su + ms' ≤ ms) {stk : List AV} (hstk : stk = av.reverse ++ aR b :: st) (kk : ∀ (x : Nat) (u' : Mem), Q' x u' → Q x u') : Z X pc ls stk u cu su := by
  subst hstk
  obtain ⟨p, l, e, R, s, m, args, below, meth, c, D, B, F⟩ := X
  intro H locs la hR hS hL T hTe Y
  cases b with
  | zero => rw [hR.2.1] at hkb; exact absurd hkb.symm hK0.1
  | succ b =>
  have hpre := z_pre (av := aR (b + 1) :: av) ho hR hS
  obtain ⟨hx, hb, hret, hlk, hown, hts, hK, hB, hRm, hF⟩ := ho
  subst hRm
  obtain ⟨cellB, hcB, hoB, hclB⟩ := z_recv hK hR hc hK0 hkb
  obtain ⟨mk, methM, hnamed, hmethM, hstM, habM⟩ := Cond.instanceMethod_spec (hts _ h2)
  obtain ⟨methM', cM, hmethM', -, -, -, -, -, -, hsigM⟩ := Cond.code_spec hnamed (hts _ h4)
  cases hmethM.symm.trans hmethM'
  obtain ⟨c2, r2, m2, q1, q2, q3, q4, kP, hkP, hkPi⟩ := Cond.selects_spec (hts _ h3)
  cases hclB.symm.trans q1
  cases (State.methodFound?_of_named hnamed hy).symm.trans q2
  cases hnamed.symm.trans q3
  have hselP : selectMethod e.platform s.vm cellB.cls mk = .method mk := by rw [Launch.admits_selectMethod Y.admits]; exact q4
  have hlenM : (av.map tV).length = methM.sig.parameters.length := by
    rw [hsigM] at hlen
    rw [List.length_map, hn]
    exact (Option.some.inj hlen).symm
  obtain ⟨vm₁, Y₁, hstep₁⟩ := Y.invokevirtual hx hown (hts _ h1) hnamed hmethM hstM hkP hkPi hy (a := b) (cell := cellB) (by rw [hTe]; exact hcB) (fun z h => by rw [h] at hoB; cases hoB) hselP hmethM habM hkP hkPi (g := F0 m pc la ((av.reverse ++ aR (b + 1) :: st).map tV)) rfl (argsL := av.map tV) (rest := st.map tV) hlenM (by simp [tV, rV]) (by rw [hb]; exact hd)
  obtain ⟨-, g1, g2, g3⟩ := hpre (T.setVm vm₁) hTe Y₁.warmed
  obtain ⟨x, u', T', L, X', hL', hq, hR', hz, hk, hst⟩ := th_run Y₁ hM (g := { F0 m pc la ((av.reverse ++ aR (b + 1) :: st).map tV) with stack := st.map tV }) rfl (hL.1.trans hN.symm) (by rw [hb]; exact hd) (by rw [rV_map]; show 2 * 0 + _ ≤ 8; omega) (Y₁.named hnamed)
    (fun w hw => pay_in hts (lw_meth h4) w hw _ _ Y₁.warmed) (pay_in hts (lw_good (ws := [Cond.initialized y.cls]) (fun w hw => by rw [List.mem_singleton.mp hw]; exact h3b)) _ List.mem_cons_self _ _ Y₁.warmed) hdp (by show _ ≤ 40 * d; omega) hcm hsm g1 g2 g3
  have hTh : (T.setVm vm₁).heap = H := hTe
  rw [hTh] at hz hk
  have hS' : va_S (fun q => B ≤ q) s.heap T'.heap (locs ++ L) := ⟨Nat.le_trans hS.1 hz, fun q h1 h2 => by rw [hk q (Nat.lt_of_lt_of_le h1 hS.1) h2]; exact hS.2.1 q h1 h2, fun q hq => by
      rcases List.mem_append.mp hq with h | h
      · exact hS.2.2 q h
      · exact hL' q h⟩
  obtain ⟨t, a1, a2⟩ := z_out hT hlk X' hcm hsm (g := { F0 m pc la ((av.reverse ++ aR (b + 1) :: st).map tV) with stack := st.map tV }) rfl rfl rfl (kk _ _ hq) hR' hS'
  exact ⟨t, hstep₁ _ fun acts => by rw [doInvoke_state]; exact hst.trans a1, a2⟩
end CALLT
/-! ===== new X(text) of the exceptions: the constructor, and the throw ===== -/
def exA_ (own : String) (ic : Nat) (C : String) (i : Nat) (b : ByteArray) : List Cond :=
  Jvm.Bundle.throwableAtoms ++ Jvm.Bundle.throwableSAtoms ++ Jvm.Bundle.passSAtoms C "java/lang/RuntimeException" i b ++ Jvm.Bundle.chainSAtoms "java/lang/RuntimeException" ["java/lang/Exception"] ++
  [.methodLink own ic (Jvm.Bundle.initS C), .instantiable C 6, .selects C Jvm.Bundle.tFill0 Jvm.Bundle.tFill0, .selects C Jvm.Bundle.tFill Jvm.Bundle.tFill,
   .lays C Jvm.Bundle.tN "cause" "Ljava/lang/Throwable;", .lays C Jvm.Bundle.tN "stackTrace" Jvm.Bundle.steD, .lays C Jvm.Bundle.tN "suppressedExceptions" Jvm.Bundle.listD, .lays C Jvm.Bundle.tN "detailMessage" "Ljava/lang/String;",
   .isRef (.static Jvm.Bundle.tN "UNASSIGNED_STACK" Jvm.Bundle.steD), .isRef (.static Jvm.Bundle.tN "SUPPRESSED_SENTINEL" Jvm.Bundle.listD),
   .fieldLink Jvm.Bundle.tN 198 Jvm.Bundle.tN "backtrace" "Ljava/lang/Object;", .lays Jvm.Bundle.tN Jvm.Bundle.tN "backtrace" "Ljava/lang/Object;", .lays C Jvm.Bundle.tN "backtrace" "Ljava/lang/Object;"]
section EXC
variable {p : Program} {l : Launch} {e : Env} {R : Room} {s : State} {m : MethodId} {args : Array Value} {below : List Frame} {meth : Method} {c : Code} {W : State} {locs : List Loc} {cells slots : Nat}
set_option maxHeartbeats 1000000 in
theorem ex_ctor (X : Stand p l e R s m args below meth c W locs cells slots) (hexec : p.tables.exec = Jvm.exec) (htr : e.platform.stackTraces = false) {own C : String} {ic i : Nat} {b : ByteArray} (hown : s.vm.findClass own = some m.cls) (hC : plainName C = true) (hC2 : C ≠ "java/lang/invoke/MethodHandle" ∧ C ≠ "java/lang/invoke/VarHandle")
    (b0 : decode b 0 = .ok (.aload_n 0, 1)) (b1 : decode b 1 = .ok (.aload_n 1, 1)) (b2 : decode b 2 = .ok (.invokespecial i, 3)) (b5 : decode b 5 = .ok (.return_, 1)) (h : ∀ a ∈ exA_ own ic C i b, a.before args s = true)
    (hlocs : ∀ x ∈ locs, ∀ cell, s.heap[x.base]? = some cell → cell.vm.isStatics = false) {a : Addr} {cX : ClassId} {kX : Class} (hfX : s.vm.findClass C = some cX) (hkX : s.vm.classes[cX]? = some kX) (hcell : W.heap[a]? = some (freshCell cX kX)) (hnew : s.heap.size ≤ a) {msg : Value} (hmsg : msg.isRef = true)
    {g : JFrame} (hg : g.method = m) (hsize : g.locals.size = c.maxLocals) {rest : List Value} (hstack : g.stack = msg :: .ref a :: rest) (hd : decode c.code g.pc = .ok (.invokespecial ic, 3)) (hfr : 5 < R.frames) (hlo : 2 * g.monitorRoom + (rest.map fun v => v.category).sum + 81 ≤ R.locals) :
    ∃ (vm' : Vm) (cell' : Cell) (L : List Loc), Stand p l e R s m args below meth c ((W.setVm vm').setCell a cell') (locs ++ L) cells slots ∧ (∀ q ∈ L, q.base = a) ∧ cell'.cls = cX ∧ cell'.vm = .none ∧
      ∀ target, Steps p.tables e below (((W.setVm vm').setCell a cell').setTop { g with pc := g.pc + 3, stack := rest }) target → Steps p.tables e below (W.setTop g) target := by
  have hA : ∀ x, x ∈ exA_ own ic C i b → x.holds args s none s [] = true := fun x hx => h x hx
  have hpl : e.platform.magicAccessors = ({} : Platform).magicAccessors := by rw [X.admits.platform]
  obtain ⟨T, Z0, LT, -, Y⟩ := ThrowableC.of_atoms (args := args) (pl := e.platform) (by rw [X.admits.platform]) (by rw [X.admits.platform]) hpl (fun x hx => h x (by simp [exA_, hx]))
  obtain ⟨ZZ, M, LZ, LM, hnZ⟩ := Init0T.ofS_atoms (args := args) hpl LT Y (fun x hx => h x (by simp [exA_, hx]))
  obtain ⟨P0, L0, hP0, hP0s⟩ := PassC.ofS_atoms (args := args) (s := s) hpl (X := C) (Y := "java/lang/RuntimeException") hC (by decide) b0 b1 b2 b5 (fun x hx => h x (by simp [exA_, hx]))
  obtain ⟨P1, Ps, hlen, L1, hL, hP1m, hlink1, hlink⟩ := Jvm.Bundle.chainS (args := args) hpl hnZ ["java/lang/Exception"] "java/lang/RuntimeException" (by decide +kernel) (by decide +kernel) (fun x hx => h x (by simp [exA_, hx]))
  have hP01 : P0.sup = P1.m := Option.some.inj (hP0s.symm.trans hP1m)
  have hfound : s.vm.findClass C = some P0.m.cls := findClass_of_methodNamed hP0
  cases Option.some.inj (hfX.symm.trans hfound)
  obtain ⟨c1, kX', hc1, hk, hord, -, -, hn6⟩ := Cond.instantiable_spec (hA (.instantiable C 6) (by simp [exA_]))
  cases Option.some.inj (hc1.symm.trans hfound)
  cases Option.some.inj (hkX.symm.trans hk)
  have hsel0 : selectMethod e.platform s.vm P0.m.cls T.fill0 = .method T.fill0 := by
    obtain ⟨c2, r2, m2, q1, q2, q3, q4, -⟩ := Cond.selects_spec (hA (.selects C Jvm.Bundle.tFill0 Jvm.Bundle.tFill0) (by simp [exA_]))
    cases Option.some.inj (q1.symm.trans hfound)
    cases Option.some.inj (q2.symm.trans (State.methodFound?_of_named Y.fill0 (by decide)))
    cases Option.some.inj (q3.symm.trans Y.fill0)
    rw [Launch.admits_selectMethod X.admits]; exact q4
  have hselF : selectMethod e.platform s.vm P0.m.cls T.fill = .method T.fill := by
    obtain ⟨c2, r2, m2, q1, q2, q3, q4, -⟩ := Cond.selects_spec (hA (.selects C Jvm.Bundle.tFill Jvm.Bundle.tFill) (by simp [exA_]))
    cases Option.some.inj (q1.symm.trans hfound)
    cases Option.some.inj (q2.symm.trans (State.methodFound?_of_named Y.fill (by decide)))
    cases Option.some.inj (q3.symm.trans Y.fill)
    rw [Launch.admits_selectMethod X.admits]; exact q4
  obtain ⟨cS0, hcS0, hiss⟩ := Y.statics
  obtain ⟨u0, hu0⟩ := Cond.staticRefV Y.unassigned LT.unassignedStatic LT.statics hcS0 hiss (hA (.isRef (.static Jvm.Bundle.tN "UNASSIGNED_STACK" Jvm.Bundle.steD)) (by simp [exA_]))
  obtain ⟨sen, hsen⟩ := Cond.staticRefV Y.sentinel LT.sentinelStatic LT.statics hcS0 hiss (hA (.isRef (.static Jvm.Bundle.tN "SUPPRESSED_SENTINEL" Jvm.Bundle.listD)) (by simp [exA_]))
  obtain ⟨ci, ib, fB, hkB, hgB, haB, hsB, -, hnB, htB, hffB⟩ := Cond.ownField (t := .object "java/lang/Object") Y.found LT.cls (by decide +kernel) (hA (.fieldLink Jvm.Bundle.tN 198 Jvm.Bundle.tN "backtrace" "Ljava/lang/Object;") (by simp [exA_])) (hA (.lays Jvm.Bundle.tN Jvm.Bundle.tN "backtrace" "Ljava/lang/Object;") (by simp [exA_])) e.platform hpl
  obtain ⟨cS, hcS', heS, -, hkeep⟩ := X.same.2.2.2.2.2 T.aS cS0 hcS0
  have hcellS : W.heap[T.aS]? = some cS := hcS'
  have hoff : ∀ j, (⟨T.aS, j⟩ : Loc) ∉ locs := fun j hmem => by
    have := hlocs _ hmem cS0 hcS0
    rw [hiss] at this; cases this
  have hkS : cS.vm ≠ .unknown := by
    rw [heS]; intro hu
    rw [show cS0.vm = .unknown from hu] at hiss
    cases hiss
  have hneS : T.aS ≠ a := Nat.ne_of_lt (Nat.lt_of_lt_of_le (Array.getElem?_eq_some_iff.mp hcS0).1 hnew)
  obtain ⟨iM, hffM⟩ := Y.msg
  obtain ⟨tyC, dC, hdC, hdnC⟩ := Cond.laysAt hfound hk Y.cause (hA (.lays C Jvm.Bundle.tN "cause" "Ljava/lang/Throwable;") (by simp [exA_]))
  obtain ⟨tyS, dS, hdS, hdnS⟩ := Cond.laysAt hfound hk Y.stack (hA (.lays C Jvm.Bundle.tN "stackTrace" Jvm.Bundle.steD) (by simp [exA_]))
  obtain ⟨tyP, dP, hdP, hdnP⟩ := Cond.laysAt hfound hk Y.supp (hA (.lays C Jvm.Bundle.tN "suppressedExceptions" Jvm.Bundle.listD) (by simp [exA_]))
  obtain ⟨tyM, dM, hdM, hdnM⟩ := Cond.laysAt hfound hk hffM (hA (.lays C Jvm.Bundle.tN "detailMessage" "Ljava/lang/String;") (by simp [exA_]))
  obtain ⟨tyB, dB, hdB, hdnB⟩ := Cond.laysAt hfound hk hffB (hA (.lays C Jvm.Bundle.tN "backtrace" "Ljava/lang/Object;") (by simp [exA_]))
  have bC := Cond.laysApart hdB hdC hdnB hdnC (by rw [hnB, Y.causeName]; decide)
  have bS := Cond.laysApart hdB hdS hdnB hdnS (by rw [hnB, Y.stackName]; decide)
  have bP := Cond.laysApart hdB hdP hdnB hdnP (by rw [hnB, Y.suppName]; decide)
  have hskip : SkipFacts T e.platform s (fun u => u) u0 ((preparedCellV T.toThrowableT (freshCell P0.m.cls kX) a u0 sen).withEntry W.cur) :=
    ⟨{ ci198 := ci, i198 := ib, fBack := fB }, ⟨hkB, hgB, haB, hsB⟩, by
      have := fresh_default (c := P0.m.cls) tyB
      rw [htB] at this
      simpa [preparedCellV, Cell.setSlot, Cell.withEntry, Array.getElem?_setIfInBounds, bC, bS, bP, bC.symm, bS.symm, bP.symm, defaultValue] using this, fun _ _ => rfl⟩
  obtain ⟨tm, methC, cdC, kC, vm₁, hnC, -, -, -, -, -, -, -, hW₁, st1⟩ := Steps.initColdS (tb := p.tables) (e := e) (below := below) (s := s) (U := W) X.here hexec X.warmed hpl hown (t := Jvm.Bundle.initS C) rfl rfl hC2
    (hA (.methodLink own ic (Jvm.Bundle.initS C)) (by simp [exA_])) (h (.instanceMethod (Jvm.Bundle.initS C)) (by simp [exA_, Jvm.Bundle.passSAtoms])) (bytes := b) (maxL := 2) (h (.code (Jvm.Bundle.initS C) b 2 none) (by simp [exA_, Jvm.Bundle.passSAtoms]))
    (f := g) hg (a := a) (msg := msg) (rest := rest) hstack hd
  cases Option.some.inj (hnC.symm.trans hP0)
  have X₁ := X.noted hW₁
  obtain ⟨vm₂, X₂, st2⟩ := X₁.ctorMessageOffV hexec (g := { g with stack := rest }) hg hsize T LT ZZ LZ M LM (P0 :: P1 :: Ps)
    (fun P hP => by
      rcases List.mem_cons.mp hP with rfl | hP
      · exact L0
      · rcases List.mem_cons.mp hP with rfl | hP
        · exact L1
        · exact hL P hP) ⟨hP01, hlink1, hlink⟩ (u0 := u0) (sen := sen) (self := a) hmsg (cell := freshCell P0.m.cls kX) (cellS := cS)
    hcell (fun _ => by simp) (by simp) rfl rfl hsel0 hselF hcellS hneS hkS (by rw [hkeep _ (hoff _)]; exact hu0) (by rw [hkeep _ (hoff _)]; exact hsen)
    (Takes.of_laid hk hord tyC (by rw [Y.causeType]; rfl)) (Takes.of_laid hk hord tyS (by rw [Y.stackType]; exact fits_refV_array _ u0)) (Takes.of_laid hk hord tyP (by rw [Y.suppType]; exact fits_refV_object _ sen))
    (Takes.of_laid hk hord tyM (by rw [Y.msgType]; exact fits_refV_object _ ⟨msg, hmsg⟩)) Y.objLocals hskip htr [] hd
    (by simp only [List.length_cons, hlen]; simp; omega) (by simp only [List.length_cons, hlen]; simp; omega)
  refine ⟨vm₂, plainBareV T.toThrowableT (freshCell P0.m.cls kX) a u0 sen msg, _, X₂, ?_, rfl, rfl, fun target ht => st1 _ fun acts => ?_⟩
  · intro q hq
    simp only [List.mem_cons, List.not_mem_nil, or_false] at hq
    rcases hq with rfl | rfl | rfl | rfl | rfl <;> rfl
  · rw [doInvoke_state]
    exact st2 target ht
end EXC
