set_option maxRecDepth 100000
/-! ===== throw new, by kind; handlers ===== -/
section TX
variable {X : Ctx_} {cc : ByteArray} {ret : Option FieldType} {d mc ms : Nat} {pc : Nat} {ls : List (Option AV)} {st : List AV} {u : Mem} {cu su : Nat} {Q0 : Option AV → Mem → Prop} {Q : Nat → Mem → Prop}
theorem tx_19 (ho : Ok_ X "KeyHall" cc ret d mc ms Q0) (hT : OkT_ X mc ms Q) (hl : (La_ X).stackTraces = false) (hN : Nl_ X ls.length) {sidx : Nat} {tx : String} (hs : (sidx, tx) ∈ nestS_) (d1 : decode cc pc = .ok (.new 69, 3)) (d2 : decode cc (pc + 3) = .ok (.dup, 1)) (d3 : decode cc (pc + 3 + 1) = .ok (.ldc sidx, 2)) (d4 : decode cc (pc + 3 + 1 + 2) = .ok (.invokespecial 73, 3)) (d5 : decode cc (pc + 3 + 1 + 2 + 3) = .ok (.athrow, 1))
    (hcu : cu + 1 ≤ mc) (hsu : su + 6 ≤ ms) (hdp : 6 ≤ d) (hcat : (st.map catA).sum ≤ 8) (hq : Q (sz_ u) (al_ u 19 0)) : Z X pc ls st u cu su :=
  z_throwNew (K := 19) (C := "java/lang/IndexOutOfBoundsException") (TT := TJ3) (b := cJ3_init) (i := 7) ho hT hl hN rfl (by decide) hs (by decide) (by decide) dJ3_init_0 dJ3_init_1 dJ3_init_2 dJ3_init_5 exw_19 q712 q713 q74 d1 d2 d3 d4 d5 hcu hsu hdp hcat hq
theorem tx_20 (ho : Ok_ X "KeyHall" cc ret d mc ms Q0) (hT : OkT_ X mc ms Q) (hl : (La_ X).stackTraces = false) (hN : Nl_ X ls.length) {sidx : Nat} {tx : String} (hs : (sidx, tx) ∈ nestS_) (d1 : decode cc pc = .ok (.new 119, 3)) (d2 : decode cc (pc + 3) = .ok (.dup, 1)) (d3 : decode cc (pc + 3 + 1) = .ok (.ldc sidx, 2)) (d4 : decode cc (pc + 3 + 1 + 2) = .ok (.invokespecial 123, 3)) (d5 : decode cc (pc + 3 + 1 + 2 + 3) = .ok (.athrow, 1))
    (hcu : cu + 1 ≤ mc) (hsu : su + 6 ≤ ms) (hdp : 6 ≤ d) (hcat : (st.map catA).sum ≤ 8) (hq : Q (sz_ u) (al_ u 20 0)) : Z X pc ls st u cu su :=
  z_throwNew (K := 20) (C := "java/lang/IllegalArgumentException") (TT := TJ8) (b := cJ8_init) (i := 7) ho hT hl hN rfl (by decide) hs (by decide) (by decide) dJ8_init_0 dJ8_init_1 dJ8_init_2 dJ8_init_5 exw_20 q762 q763 q79 d1 d2 d3 d4 d5 hcu hsu hdp hcat hq
theorem tx_21 (ho : Ok_ X "KeyHall" cc ret d mc ms Q0) (hT : OkT_ X mc ms Q) (hl : (La_ X).stackTraces = false) (hN : Nl_ X ls.length) {sidx : Nat} {tx : String} (hs : (sidx, tx) ∈ nestS_) (d1 : decode cc pc = .ok (.new 142, 3)) (d2 : decode cc (pc + 3) = .ok (.dup, 1)) (d3 : decode cc (pc + 3 + 1) = .ok (.ldc sidx, 2)) (d4 : decode cc (pc + 3 + 1 + 2) = .ok (.invokespecial 146, 3)) (d5 : decode cc (pc + 3 + 1 + 2 + 3) = .ok (.athrow, 1))
    (hcu : cu + 1 ≤ mc) (hsu : su + 6 ≤ ms) (hdp : 6 ≤ d) (hcat : (st.map catA).sum ≤ 8) (hq : Q (sz_ u) (al_ u 21 0)) : Z X pc ls st u cu su :=
  z_throwNew (K := 21) (C := "java/lang/IllegalStateException") (TT := TJ9) (b := cJ9_init) (i := 7) ho hT hl hN rfl (by decide) hs (by decide) (by decide) dJ9_init_0 dJ9_init_1 dJ9_init_2 dJ9_init_5 exw_21 q794 q795 q80 d1 d2 d3 d4 d5 hcu hsu hdp hcat hq
theorem tx_22 (ho : Ok_ X "KeyHall" cc ret d mc ms Q0) (hT : OkT_ X mc ms Q) (hl : (La_ X).stackTraces = false) (hN : Nl_ X ls.length) {sidx : Nat} {tx : String} (hs : (sidx, tx) ∈ nestS_) (d1 : decode cc pc = .ok (.new 165, 3)) (d2 : decode cc (pc + 3) = .ok (.dup, 1)) (d3 : decode cc (pc + 3 + 1) = .ok (.ldc sidx, 2)) (d4 : decode cc (pc + 3 + 1 + 2) = .ok (.invokespecial 169, 3)) (d5 : decode cc (pc + 3 + 1 + 2 + 3) = .ok (.athrow, 1))
    (hcu : cu + 1 ≤ mc) (hsu : su + 6 ≤ ms) (hdp : 6 ≤ d) (hcat : (st.map catA).sum ≤ 8) (hq : Q (sz_ u) (al_ u 22 0)) : Z X pc ls st u cu su :=
  z_throwNew (K := 22) (C := "java/util/NoSuchElementException") (TT := TJ10) (b := cJ10_init) (i := 13) ho hT hl hN rfl (by decide) hs (by decide) (by decide) dJ10_init_0 dJ10_init_1 dJ10_init_2 dJ10_init_5 exw_22 q1080 q1081 q85 d1 d2 d3 d4 d5 hcu hsu hdp hcat hq
end TX
section FH
/-- the search through a table: entries whose classes the object isn't of, then one of its own class -/
theorem fh_go {e : Env} {s : State} {args : Array Value} {own C : String} {g : JFrame} {x : Addr} {cell : Cell} {cX : ClassId} (hpl : e.platform.magicAccessors = ({} : Platform).magicAccessors) (hown : s.vm.findClass own = some g.method.cls) (hfX : s.vm.findClass C = some cX) (hcls : cell.cls = cX) (hvm : cell.vm = .none) (hcast : va_Nw (.castable C C) s)
    {hq : Nat × Nat × Nat × Nat} {rest : List (Nat × Nat × Nat × Nat)} (hcov : covers ⟨hq.1, hq.2.1, hq.2.2.1, hq.2.2.2⟩ g.pc = true) (h0 : hq.2.2.2 ≠ 0) (hlq : (Cond.classLink own hq.2.2.2 C).before args s = true) :
    ∀ (pre : List (Nat × Nat × Nat × Nat)) (S : State), s.WarmedH S.vm → S.heap[x]? = some cell → (∀ q ∈ pre, covers ⟨q.1, q.2.1, q.2.2.1, q.2.2.2⟩ g.pc = true ∧ q.2.2.2 ≠ 0 ∧ ∃ C', (Cond.classLink own q.2.2.2 C').before args s = true ∧ va_Nc C C' s) →
      ∃ vm', s.WarmedH vm' ∧ ∀ (Q : Handler → Pre) (E : CtlPost) (d : Bool) (acts : List Action), wp (findHandler.go g x (tableOf (pre ++ hq :: rest))) Q E e d acts S ↔ Q (.found hq.2.2.1) d acts (S.setVm vm') := by
  have hkX : ∀ vm : Vm, s.vm.Alike vm → ∃ k, vm.classes[cell.cls]? = some k := by
    intro vm ha
    obtain ⟨k, hk, -⟩ := Vm.findClass_spec hfX
    obtain ⟨k', hk', -⟩ := ha.2.2 _ _ hk
    exact ⟨k', by rw [hcls]; exact hk'⟩
  intro pre
  induction pre with
  | nil =>
    intro S hW hcell _
    obtain ⟨c1, hf1, hcl⟩ := Cond.classLink_spec hown hlq e.platform hpl
    obtain ⟨hg₁, hwarm₁, hready₁⟩ := State.classEntry (e := e) hW hcl
    have hsz : (S.vm.noted g.method.cls hq.2.2.2 (.cls c1)).classes.size ≤ S.vm.classes.size := by rw [Vm.size_noted]; exact Nat.le_refl _
    generalize S.vm.noted g.method.cls hq.2.2.2 (.cls c1) = vm₁ at hg₁ hwarm₁ hready₁ hsz
    cases hfX.symm.trans hf1
    obtain ⟨k, hk, -⟩ := Vm.findClass_spec hfX
    obtain ⟨k', hk', -⟩ := hwarm₁.alike.2.2 _ _ hk
    refine ⟨vm₁, hwarm₁, fun Q E d acts => ?_⟩
    show wp (findHandler.go g x (⟨hq.1, hq.2.1, hq.2.2.1, hq.2.2.2⟩ :: tableOf rest)) Q E e d acts S ↔ _
    have hasg : (S.setVm vm₁).vm.assignable cell.cls cX = true := by
      rw [hcls]
      obtain ⟨c3, c4, hc3, hc4, ha⟩ := Cond.castable_spec (va_Nw.use (A := #[]) rfl (va_Nw.warmC (U := S.setVm vm₁) hwarm₁ hcast))
      have e3 : (S.setVm vm₁).vm.findClass C = some cX := by
        show vm₁.findClass C = some cX
        rw [hwarm₁.alike.findClass]; exact hfX
      cases hc3.symm.trans e3
      cases hc4.symm.trans e3
      exact ha
    rw [go_cold hcov h0 hg₁ hready₁ hsz, Jvm.W.findHandler_go_class (s := S.setVm vm₁) (cell := cell) hcov h0 hready₁ hcell (fun k h => by rw [hvm] at h; cases h) (hkX vm₁ hwarm₁.alike) ⟨k', hk'⟩, if_pos hasg]
  | cons q pre ih =>
    intro S hW hcell hall
    obtain ⟨hcv, hq0, C', hl', hnc⟩ := hall q List.mem_cons_self
    obtain ⟨c1, hf1, hcl⟩ := Cond.classLink_spec hown hl' e.platform hpl
    obtain ⟨hg₁, hwarm₁, hready₁⟩ := State.classEntry (e := e) hW hcl
    have hsz : (S.vm.noted g.method.cls q.2.2.2 (.cls c1)).classes.size ≤ S.vm.classes.size := by rw [Vm.size_noted]; exact Nat.le_refl _
    generalize S.vm.noted g.method.cls q.2.2.2 (.cls c1) = vm₁ at hg₁ hwarm₁ hready₁ hsz
    obtain ⟨k, hk, -⟩ := Vm.findClass_spec hf1
    obtain ⟨k', hk', -⟩ := hwarm₁.alike.2.2 _ _ hk
    obtain ⟨vm', hW', hfin⟩ := ih (S.setVm vm₁) hwarm₁ hcell (fun q' hq' => hall q' (List.mem_cons_of_mem _ hq'))
    refine ⟨vm', hW', fun Q E d acts => ?_⟩
    show wp (findHandler.go g x (⟨q.1, q.2.1, q.2.2.1, q.2.2.2⟩ :: tableOf (pre ++ hq :: rest))) Q E e d acts S ↔ _
    have hasg : ¬ (S.setVm vm₁).vm.assignable cell.cls c1 = true := by
      rw [hcls]
      obtain ⟨c3, c4, hc3, hc4, ha⟩ := va_Nc.moved (U := S.setVm vm₁) hwarm₁.alike hnc
      have e3 : (S.setVm vm₁).vm.findClass C = some cX := by
        show vm₁.findClass C = some cX
        rw [hwarm₁.alike.findClass]; exact hfX
      have e4 : (S.setVm vm₁).vm.findClass C' = some c1 := by
        show vm₁.findClass C' = some c1
        rw [hwarm₁.alike.findClass]; exact hf1
      cases hc3.symm.trans e3
      cases hc4.symm.trans e4
      rw [ha]; decide
    rw [go_cold hcv hq0 hg₁ hready₁ hsz, Jvm.W.findHandler_go_class (s := S.setVm vm₁) (cell := cell) hcv hq0 hready₁ hcell (fun k h => by rw [hvm] at h; cases h) (hkX vm₁ hwarm₁.alike) ⟨k', hk'⟩, if_neg hasg]
    exact hfin Q E d acts
theorem st_catchV {e : Env} {s s' : State} {a : Addr} {f : JFrame} {r : List Frame} {pc : Nat} (hfind : FindsV e s f a (.found pc) s') :
    (stepThrowing e s a (.java f :: r)).Is (s'.setFrames (.java { f with pc := pc, stack := [.ref a] } :: r)) [] := by
  simp only [stepThrowing, searchFrame, vmDo]
  generalize hr : Sem.go _ e false [] s = res
  obtain ⟨as, rfl, ha⟩ := Sem.eq_ok_of hr (a := Handler.found pc) (s' := s') (acts' := []) (by simp [hfind _ _ _ _])
  exact ⟨rfl, ha⟩
theorem st_caughtV {tb : Tables} {e : Env} {s target : State} {g : JFrame} {c : Code} {below : List Frame} {a : Addr} {vm' : Vm} (h : At s g.method c below) {pc : Nat} (hfind : FindsV e ((s.setTop g).pushFrame (.throwing a)) g a (.found pc) (((s.setTop g).pushFrame (.throwing a)).setVm vm'))
    (hrest : Steps tb e below ((s.setVm vm').setTop { g with pc := pc, stack := [.ref a] }) target) : Steps tb e below ((s.setTop g).pushFrame (.throwing a)) target := by
  obtain ⟨hgo, hw⟩ := h.throwing a
  refine Steps.head hgo hw ?_
  rw [stepThread_throwing (frames_entered h.top _), (st_catchV (s := (s.setTop g).pushFrame (.throwing a)) hfind).1]
  obtain ⟨g₀, hg⟩ := Option.isSome_iff_exists.mp h.top
  obtain ⟨r, hr⟩ := State.topJava?_eq_some.mp hg
  have hr' : (s.setVm vm').frames = .java g₀ :: r := hr
  rw [State.setTop_of_frames _ hr'] at hrest
  have e1 : (((s.setTop g).pushFrame (.throwing a)).setVm vm').setFrames (.java { g with pc := pc, stack := [.ref a] } :: s.frames.tail) = (s.setVm vm').setFrames (.java { g with pc := pc, stack := [.ref a] } :: r) := by
    rw [hr, State.setTop_of_frames _ hr]
    show ((((s.setFrames (.java g :: r)).pushFrame (.throwing a)).setVm vm').setFrames _) = _
    rw [State.pushFrame, State.setFrames_setFrames]
    show ((s.setFrames _).setFrames _).setVm vm' = _
    rw [State.setFrames_setFrames]
    rfl
  rw [e1]
  exact hrest
end FH
