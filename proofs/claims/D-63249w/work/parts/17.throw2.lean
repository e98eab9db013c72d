set_option maxRecDepth 100000
theorem isRef_Zq {C n d : String} {A : Nat → Prop} {s : State} {args : Array Value} (h : va_Zq C n d A s s.heap) : (Cond.isRef (.static C n d)).before args s = true := by
  rcases h with h | ⟨t, h⟩
  · obtain ⟨cf, kf, fi, f, a, cell, h1, h2, h3, h4, h5, h6, h7, -⟩ := h
    simp [Cond.before, Cond.holds, Cond.value, Term.eval, State.fieldNamed?, h1, h2, h4, h5, h6, h7, Value.isRef]
  · obtain ⟨cf, kf, fi, f, a, cell, h1, h2, h3, h4, h5, h6, h7, -⟩ := h
    simp [Cond.before, Cond.holds, Cond.value, Term.eval, State.fieldNamed?, h1, h2, h4, h5, h6, h7, Value.isRef]
theorem laysStatic_LSt {B : Nat} {C n d : String} {s : State} {args : Array Value} (h : LSt_ B C n d s s.heap) : (Cond.laysStatic C n d).before args s = true := by
  obtain ⟨c, k, i, f, a, cell, h0, h1, h2, h3, h4, h5, h6, h7, h8, h9⟩ := h
  exact Cond.laysStatic_of h0 h1 h2 h3 h4 h5 h6 h7 h8
/-- an atom of a constructor of an exception: of the tables' list, or had by KK_ -/
def exOk_ (w : Cond) : Prop := w ∈ lw_all ∨ (∃ x ∈ nestD_, w = .declares x) ∨ w = .isRef (.static Jvm.Bundle.tN "UNASSIGNED_STACK" Jvm.Bundle.steD) ∨ w = .isRef (.static Jvm.Bundle.tN "SUPPRESSED_SENTINEL" Jvm.Bundle.listD) ∨ w = .laysStatic Jvm.Bundle.tN "UNASSIGNED_STACK" Jvm.Bundle.steD ∨ w = .laysStatic Jvm.Bundle.tN "SUPPRESSED_SENTINEL" Jvm.Bundle.listD
section TN
variable {X : Ctx_} {own : String} {cc : ByteArray} {ret : Option FieldType} {d mc ms : Nat} {pc : Nat} {ls : List (Option AV)} {st : List AV} {u : Mem} {cu su : Nat} {Q0 : Option AV → Mem → Prop} {Q : Nat → Mem → Prop}
/-- throw new C(text) -/
theorem z_throwNew (ho : Ok_ X "KeyHall" cc ret d mc ms Q0) (hT : OkT_ X mc ms Q) (hl : (La_ X).stackTraces = false) (hN : Nl_ X ls.length) {K idx sidx ic i : Nat} {C tx : String} {TT : u_T} {b : ByteArray} (hc : cls_[K]? = some (C, TT, 0)) (hK0 : K ≠ 0 ∧ K < 100) (hs : (sidx, tx) ∈ nestS_) (hC : plainName C = true) (hC2 : C ≠ "java/lang/invoke/MethodHandle" ∧ C ≠ "java/lang/invoke/VarHandle")
    (b0 : decode b 0 = .ok (.aload_n 0, 1)) (b1 : decode b 1 = .ok (.aload_n 1, 1)) (b2 : decode b 2 = .ok (.invokespecial i, 3)) (b5 : decode b 5 = .ok (.return_, 1)) (hw : ∀ w ∈ exA_ "KeyHall" ic C i b, exOk_ w) (hcl : Cond.classLink "KeyHall" idx C ∈ lw_all) (hins : Cond.instantiable C 6 ∈ lw_all) (hini : Cond.initialized C ∈ lw_all)
    (d1 : decode cc pc = .ok (.new idx, 3)) (d2 : decode cc (pc + 3) = .ok (.dup, 1)) (d3 : decode cc (pc + 3 + 1) = .ok (.ldc sidx, 2)) (d4 : decode cc (pc + 3 + 1 + 2) = .ok (.invokespecial ic, 3)) (d5 : decode cc (pc + 3 + 1 + 2 + 3) = .ok (.athrow, 1))
    (hcu : cu + 1 ≤ mc) (hsu : su + 6 ≤ ms) (hdp : 6 ≤ d) (hcat : (st.map catA).sum ≤ 8) (hq : Q (sz_ u) (al_ u K 0)) : Z X pc ls st u cu su := by
  obtain ⟨p, l, e, R, s, m, args, below, meth, c, D, B, F⟩ := X
  obtain ⟨hx, hb, hret, hlk, hown, hts, hK, hB, hRm, hF⟩ := ho
  obtain ⟨hne, hFT⟩ := hT
  subst hRm
  intro H locs la hR hS hL
  have hfc := (hK.1.1 K _ hc).2.1
  obtain ⟨qs, hqs⟩ := hK.2.1.2.2.2.2.2.2.2.2 _ hs
  refine W.newcK hx hb hown (hts _ hcl) (hts _ hins) (hts _ hini) rfl d1 hcu hsu hfc rfl fun H1 kC hkC e1 z1 o1 => ?_
  refine lv_dup hx hb d2 rfl ?_
  refine va_ldcS hx hb hown hqs d3 ?_
  intro T hTe Y
  have htr : e.platform.stackTraces = false := by rw [Y.admits.platform]; exact hl
  have hat : ∀ w ∈ exA_ "KeyHall" ic C i b, w.before args s = true := by
    intro w hwm
    rcases hw w hwm with h | ⟨x, hx', rfl⟩ | rfl | rfl | rfl | rfl
    · exact hts _ h
    · exact va_Nw.use rfl (hK.2.1.2.2.2.2.2.2.1 _ hx')
    · exact isRef_Zq hK.2.2.2.1
    · exact isRef_Zq hK.2.2.2.2.1
    · exact laysStatic_LSt hK.2.2.2.2.2.1
    · exact laysStatic_LSt hK.2.2.2.2.2.2
  have hlocs : ∀ x ∈ locs, ∀ cell, s.heap[x.base]? = some cell → cell.vm.isStatics = false := by
    intro x hxm cell h0
    have hlt : x.base < s.heap.size := (Array.getElem?_eq_some_iff.mp h0).1
    have hBx := hS.2.2 x hxm
    have hlt2 : x.base < H.size := Nat.lt_of_lt_of_le hlt hS.1
    obtain ⟨cS, c1, c2, -, -⟩ := Y.same.2.2.2.2.2 x.base cell h0
    have c1' : H[x.base]? = some cS := by rw [← o1 _ hlt2, ← hTe]; exact c1
    have hvm : cS.vm = .none := by
      have := (hR.2.2.1 x.base (hR.2.2.2 x.base hBx hlt2)).2
      rcases this with ⟨-, cell', k1, -, k3, -⟩ | ⟨-, -, -, k1⟩
      · rw [c1'] at k1; cases k1; exact k3
      · rw [c1'] at k1; cases k1; rfl
    rw [c2] at hvm
    have hvm' : cell.vm = .none := hvm
    rw [hvm']; rfl
  have hcat' : ((Value.ref H.size :: st.map tV).map fun v => v.category).sum ≤ 9 := by
    rw [List.map_cons, List.sum_cons, rV_map]
    show 1 + _ ≤ 9
    omega
  obtain ⟨vm', cell', L, Y', hLb, k1, k2, hst⟩ := ex_ctor Y hx htr hown hC hC2 b0 b1 b2 b5 hat hlocs (a := H.size) hfc hkC (by rw [hTe]; exact e1) hS.1 (msg := .ref qs) rfl (g := F0 m (pc + 3 + 1 + 2) la (.ref qs :: .ref H.size :: .ref H.size :: st.map tV)) rfl (hL.1.trans hN.symm) (rest := .ref H.size :: st.map tV) rfl (by rw [hb]; exact d4)
    (show 5 < d by omega) (by show 2 * 0 + _ + 81 ≤ 40 * d; omega)
  have hTs : T.heap.size = H.size + 1 := by rw [hTe]; exact z1
  obtain ⟨g1, g2, g3, g4, g5⟩ := (stand_widen Y' hcu hsu).athrowLeaves hx (g := F0 m (pc + 3 + 1 + 2 + 3) la (.ref H.size :: st.map tV)) rfl rfl rfl (covers_of_empty hne _) (a := H.size) (rest := st.map tV) rfl (by rw [hb]; exact d5) hlk
  have hheap : (((T.setVm vm').setCell H.size cell').setFrames (.throwing H.size :: below)).heap = T.heap.setIfInBounds H.size cell' := rfl
  have hat1 : (T.heap.setIfInBounds H.size cell')[H.size]? = some cell' := by simp [Array.getElem?_setIfInBounds, hTs]
  have hoth : ∀ q : Nat, q < H.size → (T.heap.setIfInBounds H.size cell')[q]? = H[q]? := by
    intro q hq'
    rw [Array.getElem?_setIfInBounds_ne (by omega), hTe]
    exact o1 q hq'
  have hsz : (T.heap.setIfInBounds H.size cell').size = H.size + 1 := by simp [hTs]
  refine ⟨_, hst _ g1, hFT _ H.size g2 g3 ⟨⟨al_ u K 0, by rw [← hR.1]; exact hq, ?_⟩, ?_, g4, locs ++ L, g5, ?_⟩⟩
  · rw [hheap]
    refine hR.new (Nat.le_trans hB hS.1) rfl (fun b hb => by rw [kd_al, if_neg hb]) (fun b hb => by rw [ln_al, if_neg hb]) (fun b hb i => by rw [iv_al, if_neg hb]) (fun b hb i => by rw [rv_al, if_neg hb]) hsz hoth (by rw [kd_al, if_pos rfl]; exact hK0.1) (Or.inl ?_)
    rw [kd_al, if_pos hR.1.symm]
    refine ⟨hK0.2, cell', hat1, k1, k2, fun k hk => ?_⟩
    rw [nF_of hc] at hk
    omega
  · rw [va_F, hheap]
    exact ⟨by rw [hsz]; exact Nat.le_trans hS.1 (by omega), fun q h1 h2 => by rw [hoth q (Nat.lt_of_lt_of_le h1 hS.1)]; exact hS.2.1 q h1 h2⟩
  · intro q hq'
    rcases List.mem_append.mp hq' with h | h
    · exact hS.2.2 q h
    · rw [hLb q h]; exact Nat.le_trans hB hS.1
end TN
set_option maxHeartbeats 4000000 in
theorem exw_19 : ∀ w ∈ exA_ "KeyHall" 73 "java/lang/IndexOutOfBoundsException" 7 cJ3_init, exOk_ w := by
  unfold exOk_
  decide +kernel
set_option maxHeartbeats 4000000 in
theorem exw_20 : ∀ w ∈ exA_ "KeyHall" 123 "java/lang/IllegalArgumentException" 7 cJ8_init, exOk_ w := by
  unfold exOk_
  decide +kernel
set_option maxHeartbeats 4000000 in
theorem exw_21 : ∀ w ∈ exA_ "KeyHall" 146 "java/lang/IllegalStateException" 7 cJ9_init, exOk_ w := by
  unfold exOk_
  decide +kernel
set_option maxHeartbeats 4000000 in
theorem exw_22 : ∀ w ∈ exA_ "KeyHall" 169 "java/util/NoSuchElementException" 13 cJ10_init, exOk_ w := by
  unfold exOk_
  decide +kernel
