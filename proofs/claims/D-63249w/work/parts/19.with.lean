set_option maxRecDepth 100000
/-! ===== methods with handlers ===== -/
def OkH_ (X : Ctx_) (hh : List (Nat × Nat × Nat × Nat)) : Prop := match X with
  | (_, _, _, _, _, _, _, _, _, c, _, _, _) => c.exceptionTable.toList = tableOf hh
def MtW_ (l : Launch) (y : MethodName) (cc : ByteArray) (nL : Nat) (ret : Option FieldType) (hh : List (Nat × Nat × Nat × Nat)) (d mc ms : Nat) (av : List AV) (u : Mem) (Q : Option AV → Mem → Prop) : Prop :=
  ∀ (D : Dx_) (B : Nat), Met l y (wsW_ y cc nL ret hh) (Rm_ d mc ms) (va_Pc (av.map tV) (fun U => B ≤ U.heap.size ∧ KK_ D B U ∧ Rep_ D B u U.heap)) (Qc_ D B Q) mc ms (fun q => B ≤ q)
theorem MtW_of {l : Launch} {y : MethodName} {cc : ByteArray} {nL : Nat} {ret : Option FieldType} {hh : List (Nat × Nat × Nat × Nat)} {d mc ms : Nat} {av : List AV} {u : Mem} {Q : Option AV → Mem → Prop} (hy : plainName y.cls = true) (hn : (entc_ av).length ≤ nL)
    (body : ∀ X : Ctx_, Ok_ X y.cls cc ret d mc ms Q → OkH_ X hh → La_ X = l → Nl_ X nL → Z X 0 (ent_ av nL) [] u 0 0) : MtW_ l y cc nL ret hh d mc ms av u Q := by
  intro D B
  refine MetFree.of_bodyS (code := cc) (maxLocals := nL) (ret := ret) hy ?_ ?_
  · intro args s m h hn
    obtain ⟨m', meth, c, hn', hm, hcode, hby, hlo, htb, hret, hlk, -⟩ := Cond.codeWith_spec (atoms_spec (ws := wsW_ y cc nL ret hh) h _ List.mem_cons_self)
    cases hn.symm.trans hn'
    exact ⟨meth, c, hm, hcode, hby, hlo, hret, hlk⟩
  · intro p e s m args below meth c s₁ Bd hml hv _
    obtain ⟨rfl, hB, hK, hR⟩ := hv
    have hts := atoms_spec (ws := wsW_ y cc nL ret hh) Bd.pre
    obtain ⟨m', meth', c', hn', hm, hcode, hby, hlo, htb, hret, hlk, -⟩ := Cond.codeWith_spec (hts _ List.mem_cons_self)
    cases Bd.named.symm.trans hn'
    cases Bd.method.symm.trans hm
    cases ((Stand.of_body Bd).code).symm.trans hcode
    have hh0 : s₁.heap = s.heap := by rw [Bd.state]; rfl
    have h := body (p, l, e, Rm_ d mc ms, s, m, (av.map tV).toArray, below, meth, c, D, B, MQ below (Qc_ D B Q) (av.map tV).toArray s mc ms (fun q => B ≤ q))
      ⟨Bd.exec, Bd.bytes, Bd.returns, Bd.notSynchronized, findClass_of_methodNamed Bd.named, fun w h => hts w (List.mem_cons_of_mem _ h), hK, hB, rfl, fun t h => h⟩ (by show c.exceptionTable.toList = _; rw [← htb, table_eq]) rfl hml
    have h2 := h s.heap [] _ hR va_S.rf (ent_Lv av hn)
    rw [← hh0] at h2
    rw [lg_entry_eq]
    obtain ⟨t, g1, o, g2, g3, g4⟩ := h2 s₁ rfl (Stand.of_body Bd)
    exact ⟨t, o, g1, g2, g3, g4⟩
section CW
variable {X : Ctx_} {own : String} {cc : ByteArray} {ret : Option FieldType} {d mc ms : Nat} {pc : Nat} {ls : List (Option AV)} {st : List AV} {u : Mem} {cu su : Nat}
  {y : MethodName} {bytes : ByteArray} {maxL : Nat} {rt : Option FieldType} {d' mc' ms' : Nat} {av : List AV} {Q0 : Option AV → Mem → Prop}
/-- the call throws an exception of kind K, which a handler takes -/
theorem z_callVC {Q' : Nat → Mem → Prop} (ho : Ok_ X own cc ret d mc ms Q0) {pre rest : List (Nat × Nat × Nat × Nat)} {hq : Nat × Nat × Nat × Nat} (hH : OkH_ X (pre ++ hq :: rest)) {n idx b K KE : Nat} {C CE : String} {TT TE : u_T} {N : Nat} (hN : Nl_ X ls.length) (hM : Th_ (La_ X) y bytes maxL rt d' mc' ms' (aR b :: av) u Q') (hc : cls_[K]? = some (C, TT, N)) (hK0 : K ≠ 0 ∧ K < 100) (hkb : kd_ u b = K)
    (h1 : Cond.methodLink own idx y ∈ lw_all) (h2 : Cond.instanceMethod y ∈ lw_all) (h3 : Cond.selects C y y ∈ lw_all) (h3b : Cond.initialized y.cls ∈ lw_all) (h4 : Cond.code y bytes maxL rt ∈ lw_all) (hy : y.cls ≠ "java/lang/invoke/MethodHandle" ∧ y.cls ≠ "java/lang/invoke/VarHandle") (hlen : (parseMethodDescriptor y.desc).map (fun d => d.parameters.length) = some n) (hn : av.length = n) (hml : maxL ≤ 21)
    (hdp : d' + 1 ≤ d) (hd : decode cc pc = .ok (.invokevirtual idx, 3)) (hcat : (st.map catA).sum ≤ 8) (hcm : cu + mc' ≤ mc) (hsm : su + ms' ≤ ms) {stk : List AV} (hstk : stk = av.reverse ++ aR b :: st)
    (hce : cls_[KE]? = some (CE, TE, 0)) (hKE : KE ≠ 0 ∧ KE < 100) (hQK : ∀ x u', Q' x u' → kd_ u' x = KE) (hcast : (CE, CE) ∈ nestC_) (hcov : covers ⟨hq.1, hq.2.1, hq.2.2.1, hq.2.2.2⟩ pc = true) (hq0 : hq.2.2.2 ≠ 0) (hlq : Cond.classLink own hq.2.2.2 CE ∈ lw_all)
    (hall : ∀ q ∈ pre, covers ⟨q.1, q.2.1, q.2.2.1, q.2.2.2⟩ pc = true ∧ q.2.2.2 ≠ 0 ∧ ∃ C', Cond.classLink own q.2.2.2 C' ∈ lw_all ∧ (CE, C') ∈ nestN_)
    (kk : ∀ (x : Nat) (u' : Mem), Q' x u' → Z X hq.2.2.1 ls [aR x] u' (cu + mc') (su + ms')) : Z X pc ls stk u cu su := by
  subst hstk
  obtain ⟨p, l, e, R, s, m, args, below, meth, c, D, B, F⟩ := X
  intro H locs la hR hS hL T hTe Y
  cases b with
  | zero => rw [hR.2.1] at hkb; exact absurd hkb.symm hK0.1
  | succ b =>
  have hpre := z_pre (av := aR (b + 1) :: av) ho hR hS
  obtain ⟨hx, hb, hret, hlk, hown, hts, hK, hB, hRm, hF⟩ := ho
  subst hRm
  obtain ⟨cellB, hcB, hoB, hclB⟩ := z_recv hK hR hc hK0 hkb
  obtain ⟨mk, methM, hnamed, hmethM, hstM, habM⟩ := Cond.instanceMethod_spec (hts _ h2)
  obtain ⟨methM', cM, hmethM', -, -, -, -, -, -, hsigM⟩ := Cond.code_spec hnamed (hts _ h4)
  cases hmethM.symm.trans hmethM'
  obtain ⟨c2, r2, m2, q1, q2, q3, q4, kP, hkP, hkPi⟩ := Cond.selects_spec (hts _ h3)
  cases hclB.symm.trans q1
  cases (State.methodFound?_of_named hnamed hy).symm.trans q2
  cases hnamed.symm.trans q3
  have hselP : selectMethod e.platform s.vm cellB.cls mk = .method mk := by rw [Launch.admits_selectMethod Y.admits]; exact q4
  have hlenM : (av.map tV).length = methM.sig.parameters.length := by
    rw [hsigM] at hlen
    rw [List.length_map, hn]
    exact (Option.some.inj hlen).symm
  obtain ⟨vm₁, Y₁, hstep₁⟩ := Y.invokevirtual hx hown (hts _ h1) hnamed hmethM hstM hkP hkPi hy (a := b) (cell := cellB) (by rw [hTe]; exact hcB) (fun z h => by rw [h] at hoB; cases hoB) hselP hmethM habM hkP hkPi (g := F0 m pc la ((av.reverse ++ aR (b + 1) :: st).map tV)) rfl (argsL := av.map tV) (rest := st.map tV) hlenM (by simp [tV, rV]) (by rw [hb]; exact hd)
  obtain ⟨-, g1, g2, g3⟩ := hpre (T.setVm vm₁) hTe Y₁.warmed
  obtain ⟨x, u', T', L, X', hL', hqx, hR', hz, hk, hst⟩ := th_run Y₁ hM (g := F0 m pc la (st.map tV)) rfl (hL.1.trans hN.symm) (by rw [hb]; exact hd) (by rw [rV_map]; show 2 * 0 + _ ≤ 8; omega) (Y₁.named hnamed)
    (fun w hw => pay_in hts (lw_meth h4) w hw _ _ Y₁.warmed) (pay_in hts (lw_good (ws := [Cond.initialized y.cls]) (fun w hw => by rw [List.mem_singleton.mp hw]; exact h3b)) _ List.mem_cons_self _ _ Y₁.warmed) hdp (by show _ ≤ 40 * d; omega) hcm hsm g1 g2 g3
  have hTh : (T.setVm vm₁).heap = H := hTe
  rw [hTh] at hz hk
  have hS' : va_S (fun q => B ≤ q) s.heap T'.heap (locs ++ L) := ⟨Nat.le_trans hS.1 hz, fun q h1 h2 => by rw [hk q (Nat.lt_of_lt_of_le h1 hS.1) h2]; exact hS.2.1 q h1 h2, fun q hq => by
      rcases List.mem_append.mp hq with h | h
      · exact hS.2.2 q h
      · exact hL' q h⟩
  have hkx := hQK _ _ hqx
  obtain ⟨cell, e1, e2, e3, -⟩ := (hR'.2.2.1 x (by rw [hkx]; exact hKE.1)).2.obj hkx hKE.2
  have hfE := (hK.1.1 KE _ hce).2.1
  have hpl : e.platform.magicAccessors = ({} : Platform).magicAccessors := by rw [Y.admits.platform]
  obtain ⟨vm', hW', hfin⟩ := fh_go (e := e) (s := s) (args := args) (own := own) (C := CE) (g := F0 m pc la (st.map tV)) (x := x) (cell := cell) hpl hown hfE e2 e3 (hK.2.1.2.2.1 _ hcast) (hq := hq) (rest := rest) hcov hq0 (hts _ hlq) pre
    ((T'.setTop (F0 m pc la (st.map tV))).pushFrame (.throwing x)) (by rw [Stand.throwing_vm]; exact X'.warmed) (by rw [Stand.throwing_heap]; exact e1) (fun q hq' => by
      obtain ⟨k1, k2, C', k3, k4⟩ := hall q hq'
      exact ⟨k1, k2, C', hts _ k3, hK.2.1.2.2.2.2.2.2.2.1 _ k4⟩)
  have hfind : FindsV e ((T'.setTop (F0 m pc la (st.map tV))).pushFrame (.throwing x)) (F0 m pc la (st.map tV)) x (.found hq.2.2.1) (((T'.setTop (F0 m pc la (st.map tV))).pushFrame (.throwing x)).setVm vm') := by
    intro Q E dd acts
    rw [Jvm.W.findHandler_eq (meth := meth) (code := c) (by rw [Stand.throwing_vm]; exact X'.method') X'.code, show c.exceptionTable.toList = tableOf (pre ++ hq :: rest) from hH]
    exact hfin Q E dd acts
  have Y3 := X'.noted hW'
  obtain ⟨t, a1, a2⟩ := kk _ _ hqx T'.heap (locs ++ L) la hR' hS' hL (T'.setVm vm') rfl Y3
  refine ⟨t, hstep₁ _ fun acts => ?_, a2⟩
  rw [doInvoke_state]
  exact hst.trans (st_caughtV (g := F0 m pc la (st.map tV)) X'.here hfind a1)
/-- invokestatic of a method with handlers -/
theorem z_callSW {Q' : Option AV → Mem → Prop} {hh : List (Nat × Nat × Nat × Nat)} (ho : Ok_ X own cc ret d mc ms Q0) {n idx : Nat} (hN : Nl_ X ls.length) (hM : MtW_ (La_ X) y bytes maxL rt hh d' mc' ms' av u Q') (h1 : Cond.methodLink own idx y ∈ lw_all) (h2 : Cond.static y ∈ lw_all) (h3 : Cond.initialized y.cls ∈ lw_all) (h4 : Cond.codeWith y bytes maxL rt hh ∈ lw_all) (hy : y.cls ≠ "java/lang/invoke/MethodHandle" ∧ y.cls ≠ "java/lang/invoke/VarHandle") (hlen : (parseMethodDescriptor y.desc).map (fun d => d.parameters.length) = some n) (hn : av.length = n) (hml : maxL ≤ 21)
    (hdp : d' + 1 ≤ d) (hd : decode cc pc = .ok (.invokestatic idx, 3)) (hcat : (st.map catA).sum ≤ 8) (hcm : cu + mc' ≤ mc) (hsm : su + ms' ≤ ms) {stk : List AV} (hstk : stk = av.reverse ++ st) (kk : ∀ (r : Option AV) (u' : Mem), Q' r u' → Z X (pc + 3) ls (r.toList ++ st) u' (cu + mc') (su + ms')) : Z X pc ls stk u cu su := by
  subst hstk
  obtain ⟨p, l, e, R, s, m, args, below, meth, c, D, B, F⟩ := X
  intro H locs la hR hS hL T hTe Y
  have hpre := z_pre (av := av) ho hR hS
  obtain ⟨hx, hb, hret, hlk, hown, hts, hK, hB, hRm, hF⟩ := ho
  subst hRm
  obtain ⟨mk, methM, cM, hnamed, hmethM, hcM, -, hlM, -, -, -, hsigM⟩ := Cond.codeWith_spec (hts _ h4)
  have hstatic : methM.isStatic = true := Cond.static_spec hnamed hmethM (hts _ h2)
  obtain ⟨kP, hkP, -⟩ := className_of_methodNamed hnamed
  have hinitP : kP.init = .initialized := Cond.initialized_spec (findClass_of_methodNamed hnamed) hkP (hts _ h3)
  have hlenM : (av.map tV).length = methM.sig.parameters.length := by
    rw [hsigM] at hlen
    rw [List.length_map, hn]
    exact (Option.some.inj hlen).symm
  obtain ⟨vm₁, Y₁, hstep₁⟩ := Y.invokestatic hx hown (hts _ h1) hnamed hmethM hstatic hkP hinitP hy (g := F0 m pc la ((av.reverse ++ st).map tV)) rfl (argsL := av.map tV) (rest := st.map tV) hlenM (by simp) (by rw [hb]; exact hd)
  obtain ⟨-, g1, g2, g3⟩ := hpre (T.setVm vm₁) hTe Y₁.warmed
  have hn1 := Y₁.named hnamed
  have hws : ∀ w ∈ wsW_ y bytes maxL rt hh, w.before (av.map tV).toArray (T.setVm vm₁) = true := fun w hw => pay_in hts (lw_methW h4) w hw _ _ Y₁.warmed
  obtain ⟨mk', methY, cY, hnY, hmY, hcY, -, hlY, -, -, -, -⟩ := Cond.codeWith_spec (hws _ List.mem_cons_self)
  cases hn1.symm.trans hnY
  obtain ⟨kY, hkY, -⟩ := className_of_methodNamed hn1
  have hinitY : kY.init = .initialized := Cond.initialized_spec (findClass_of_methodNamed hn1) hkY (pay_in hts (lw_good (ws := [Cond.initialized y.cls]) (fun w hw => by rw [List.mem_singleton.mp hw]; exact h3)) _ List.mem_cons_self (av.map tV).toArray _ Y₁.warmed)
  have hdg : decode c.code pc = .ok (.invokestatic idx, 3) := by rw [hb]; exact hd
  have happ : (headSpec (wsW_ y bytes maxL rt hh) (Rm_ d' mc' ms')).appliesLoose y e.platform ((T.setVm vm₁).calling (F0 m pc la (st.map tV)) mk (av.map tV).toArray) = true :=
    Spec.appliesLoose_calling (g := F0 m pc la (st.map tV)) Y₁.here hdg hn1 hkY hinitY (Y₁.room_calling (g := F0 m pc la (st.map tV)) (R' := Rm_ d' mc' ms') (hL.1.trans hN.symm) hmY hcY hdp (by rw [hlY, rV_map]; show 2 * 0 + _ + _ + 40 * d' ≤ 40 * d; omega) hcm hsm) (atoms_intro hws)
  obtain ⟨mid, hmid⟩ := Y₁.here.above
  have hfr' : ((T.setVm vm₁).setTop (F0 m pc la (st.map tV))).frames = (.java (F0 m pc la (st.map tV)) :: mid) ++ below := by rw [State.frames_setTop' _ Y₁.here.top, hmid]; rfl
  obtain ⟨o, s₂, hsteps, -, hend, ⟨⟨r, u', hv, hqr, hR'⟩, hF'⟩, L, ⟨hret', hW', hsame⟩, hL'⟩ := Steps.callFree (hM D B) p Y₁.admits Y₁.cas Y₁.clock (acts := []) hfr' happ (pre_blind _ (T.setVm vm₁) (F0 m pc la (st.map tV)) mk ⟨rfl, g1, g2, g3⟩) trivial
  subst hv
  rw [State.frames_setTop' _ Y₁.here.top, Y₁.tail] at hend
  obtain ⟨T', X', -, -, ht⟩ := Y₁.outOf (g := F0 m pc la (st.map tV)) rfl hdg hend hW' hsame
  have hheap : s₂.heap = T'.heap := by
    rw [ht]
    simp [State.setTop, State.modifyTopJava, State.setFrames]
  have hTh : (T.setVm vm₁).heap = H := hTe
  have hz : H.size ≤ T'.heap.size := by
    have h9 : (T.setVm vm₁).heap.size ≤ s₂.heap.size := hF'.1
    rw [hTh] at h9
    rw [← hheap]; exact h9
  have hk : ∀ q : Nat, q < H.size → ¬ B ≤ q → T'.heap[q]? = H[q]? := fun q h1 h2 => by
    rw [← hheap, ← hTh]
    exact hF'.2 q (by show q < (T.setVm vm₁).heap.size; rw [hTh]; exact h1) h2
  have hS' : va_S (fun q => B ≤ q) s.heap T'.heap (locs ++ L) := ⟨Nat.le_trans hS.1 hz, fun q h1 h2 => by rw [hk q (Nat.lt_of_lt_of_le h1 hS.1) h2]; exact hS.2.1 q h1 h2, fun q hq => by
      rcases List.mem_append.mp hq with h | h
      · exact hS.2.2 q h
      · exact hL' q h⟩
  obtain ⟨t, a1, a2⟩ := kk r u' hqr T'.heap (locs ++ L) la (by rw [← hheap]; exact hR') hS' hL T' rfl X'
  refine ⟨t, hstep₁ _ fun acts => ?_, a2⟩
  rw [doInvoke_state]
  refine hsteps.trans ?_
  rw [ht]
  have hmap : (Option.map tV r).toList ++ st.map tV = (r.toList ++ st).map tV := by cases r <;> simp
  show Steps p.tables e below (T'.setTop { F0 m pc la (st.map tV) with pc := pc + 3, stack := (Option.map tV r).toList ++ st.map tV }) t
  rw [hmap]
  exact a1
end CW
