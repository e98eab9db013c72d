set_option maxRecDepth 100000
section NEW
variable {X : Ctx_} {own : String} {cc : ByteArray} {ret : Option FieldType} {d mc ms : Nat} {Q : Option AV → Mem → Prop} {pc : Nat} {ls : List (Option AV)} {st : List AV} {u : Mem} {cu su : Nat}
theorem z_new (ho : Ok_ X own cc ret d mc ms Q) {K idx : Nat} {C : String} {T : u_T} {N : Nat} (hc : cls_[K]? = some (C, T, N)) (hin : ∀ w ∈ u_ws C T N, w ∈ lw_all) (ty0 : Nat → FieldType) (hty : ∀ k, k < N → parseFieldDescriptor (T k).2.2.1 = some (ty0 k)) (hK0 : K ≠ 0 ∧ K < 100) (hdf : ∀ k, k < N → defaultValue (ty0 k) = if rf_ K k = true then Value.null else Value.int 0)
    (hcl : Cond.classLink own idx C ∈ lw_all) (hins : Cond.instantiable C N ∈ lw_all) (hini : Cond.initialized C ∈ lw_all) (hd : decode cc pc = .ok (.new idx, 3)) (hcu : cu + 1 ≤ mc) (hsu : su + N ≤ ms) (kk : Z X (pc + 3) ls (aR (sz_ u) :: st) (al_ u K 0) (cu + 1) (su + N)) : Z X pc ls st u cu su := by
  obtain ⟨p, l, e, R, s, m, args, below, meth, c, D, B, F⟩ := X
  obtain ⟨hx, hb, hret, hlk, hown, hts, hK, hB, hRm, hF⟩ := ho
  subst hRm
  intro H locs la hR hS hL
  have hKn := hK.1.1 K _ hc
  refine W.newcK hx hb hown (hts _ hcl) (hts _ hins) (hts _ hini) rfl hd hcu hsu hKn.2.1 rfl fun H1 kC hkC e1 z1 o1 => ?_
  have hR1 : Rep_ D B (al_ u K 0) H1 := by
    refine hR.new (Nat.le_trans hB hS.1) rfl (fun b hb => by rw [kd_al, if_neg hb]) (fun b hb => by rw [ln_al, if_neg hb]) (fun b hb i => by rw [iv_al, if_neg hb]) (fun b hb i => by rw [rv_al, if_neg hb]) z1 o1 (by rw [kd_al, if_pos rfl]; exact hK0.1) (Or.inl ?_)
    rw [kd_al, if_pos hR.1.symm]
    refine ⟨hK0.2, ?_⟩
    rw [nF_of hc]
    refine (u_born ty0 hts hin hKn hkC e1 hty).to (fun k hk => ?_)
    rw [hdf k hk]
    unfold fv_
    rw [iv_al, if_pos hR.1.symm, rv_al, if_pos hR.1.symm]
    rfl
  have := kk H1 locs la hR1 (hS.new z1 o1) hL
  rw [List.map_cons, show tV (aR (sz_ u)) = Value.ref H.size by rw [hR.1]; rfl] at this
  exact this
theorem z_newa (ho : Ok_ X own cc ret d mc ms Q) {K t : Nat} {at_ : ArrayType} {ty : FieldType} {n : Int} (hK4 : 100 ≤ K ∧ K ≤ 104) (ht : ∀ D : Dx_, (tys_ D)[t]? = some (D.2.2 K, ty)) (hty : newarray.typeOf at_ = ty) (hnr : ∀ C, ty ≠ .object C) (hdf : defaultValue ty = if K = 104 then Value.long 0 else Value.int 0) (hw : Cond.arrayClass ty ∈ lw_all) (hd : decode cc pc = .ok (.newarray at_, 2)) (h0 : 0 ≤ n) (h1 : n ≤ 60000000) (hcb : componentBytes ty ≤ 8) (hcu : cu + 1 ≤ mc) (hsu : su + n.toNat ≤ ms)
    (kk : Z X (pc + 2) ls (aR (sz_ u) :: st) (al_ u K n) (cu + 1) (su + n.toNat)) : Z X pc ls (aI n :: st) u cu su := by
  obtain ⟨p, l, e, R, s, m, args, below, meth, c, D, B, F⟩ := X
  obtain ⟨hx, hb, hret, hlk, hown, hts, hK, hB, hRm, hF⟩ := ho
  subst hRm
  subst hty
  intro H locs la hR hS hL
  have hrg : rng n := by unfold rng; omega
  have hcl : (Int32.ofInt n).toNatClampNeg = n.toNat := rg_clamp hrg
  refine va_newaK hx hb (hts _ hw) rfl hd rfl ?_ hcl (Nat.le_trans (Nat.mul_le_mul_left _ hcb) (by omega)) hcu hsu rfl fun H1 cA e1 z1 o1 hAr hNm => ?_
  · rw [show (0 : Int32) = Int32.ofInt 0 from rfl, rg_lt hrg rg_0]; omega
  have hcA : cA = D.2.2 K := by
    have h2 := (hK.1.2 t _ (ht D)).2
    have h3 : s.vm.findClass ("[" ++ (newarray.typeOf at_).toString) = some (D.2.2 K) := by
      revert h2 hnr
      generalize newarray.typeOf at_ = ty
      intro hnr h2
      unfold va_RA at h2
      cases ty <;> first | exact h2 | exact absurd rfl (hnr _)
    exact Option.some.inj (hNm.symm.trans h3)
  subst hcA
  have hR1 : Rep_ D B (al_ u K n) H1 := by
    refine hR.new (Nat.le_trans hB hS.1) rfl (fun b hb => by rw [kd_al, if_neg hb]) (fun b hb => by rw [ln_al, if_neg hb]) (fun b hb i => by rw [iv_al, if_neg hb]) (fun b hb i => by rw [rv_al, if_neg hb]) z1 o1 (by rw [kd_al, if_pos rfl]; omega) (Or.inr ?_)
    rw [kd_al, if_pos hR.1.symm, ln_al, if_pos hR.1.symm]
    refine ⟨hK4.1, h0, by omega, ?_⟩
    rw [e1]
    congr 2
    funext j
    rw [hdf]
    by_cases e : K = 104
    · subst e; rw [if_pos rfl, av_L, iv_al, if_pos hR.1.symm]; rfl
    · rw [if_neg e, av_I (by omega), iv_al, if_pos hR.1.symm]; rfl
  have := kk H1 locs la hR1 (hS.new z1 o1) hL
  rw [List.map_cons, show tV (aR (sz_ u)) = Value.ref H.size by rw [hR.1]; rfl] at this
  exact this
theorem z_anew (ho : Ok_ X own cc ret d mc ms Q) {K V t idx : Nat} {C : String} {n : Int} (hKK : rA_ K V t) (hC : C = (match K with | 105 => "KeyHall$Twig" | 106 => "KeyHall$View" | _ => "KeyHall$Rope")) (hcl : Cond.classLink own idx C ∈ lw_all) (hd : decode cc pc = .ok (.anewarray idx, 3)) (h0 : 0 ≤ n) (h1 : n ≤ 60000000) (hcu : cu + 1 ≤ mc) (hsu : su + n.toNat ≤ ms)
    (kk : Z X (pc + 3) ls (aR (sz_ u) :: st) (al_ u K n) (cu + 1) (su + n.toNat)) : Z X pc ls (aI n :: st) u cu su := by
  obtain ⟨p, l, e, R, s, m, args, below, meth, c, D, B, F⟩ := X
  obtain ⟨hx, hb, hret, hlk, hown, hts, hK, hB, hRm, hF⟩ := ho
  subst hRm
  intro H locs la hR hS hL
  have hrg : rng n := by unfold rng; omega
  have hcN : (Int32.ofInt n).toNatClampNeg = n.toNat := rg_clamp hrg
  have hKr : 105 ≤ K := by unfold rA_ at hKK; omega
  have hAO : va_AO C s ∧ (tys_ D)[t]? = some (D.2.2 K, .object C) := by
    rcases hKK with ⟨e1, e2, e3⟩ | ⟨e1, e2, e3⟩ | ⟨e1, e2, e3⟩ <;> subst e1 <;> subst e2 <;> subst e3 <;> subst hC
    · exact ⟨hK.2.1.2.2.2.1, rfl⟩
    · exact ⟨hK.2.1.2.2.2.2.1, rfl⟩
    · exact ⟨hK.2.1.2.2.2.2.2.1, rfl⟩
  refine W.anew hx hb hown (hts _ hcl) (va_AO.use hAO.1) rfl hd rfl ?_ (by rw [hcN]; omega) hcu (by rw [hcN]; exact hsu) fun cA kA comp f1 f2 f3 f4 => ?_
  · rw [show (0 : Int32) = Int32.ofInt 0 from rfl, rg_lt hrg rg_0]; omega
  obtain ⟨-, kA', comp', k1, k2, k3, k4⟩ := hK.1.2 t _ hAO.2
  have hcA : cA = D.2.2 K := Option.some.inj (f1.symm.trans k4)
  subst hcA
  rw [hcN]
  generalize hH1 : H.push ({ cls := D.2.2 K, slots := Array.replicate n.toNat .null, vm := .none } : Cell) = H1
  have z1 : H1.size = H.size + 1 := by rw [← hH1, Array.size_push]
  have e1 : H1[H.size]? = some (arrV (D.2.2 K) n.toNat (fun _ => .null)) := by rw [← hH1, Array.getElem?_push_size, ← arrV_new]
  have o1 : ∀ q : Nat, q < H.size → H1[q]? = H[q]? := fun q hq => by rw [← hH1, Array.getElem?_push, if_neg (Nat.ne_of_lt hq)]
  have hR1 : Rep_ D B (al_ u K n) H1 := by
    refine hR.new (Nat.le_trans hB hS.1) rfl (fun b hb => by rw [kd_al, if_neg hb]) (fun b hb => by rw [ln_al, if_neg hb]) (fun b hb i => by rw [iv_al, if_neg hb]) (fun b hb i => by rw [rv_al, if_neg hb]) z1 o1 (by rw [kd_al, if_pos rfl]; omega) (Or.inr ?_)
    rw [kd_al, if_pos hR.1.symm, ln_al, if_pos hR.1.symm]
    refine ⟨by omega, h0, by omega, ?_⟩
    rw [e1]
    congr 2
    funext j
    rw [av_R (by omega), rv_al, if_pos hR.1.symm]
    rfl
  have := kk H1 locs la hR1 (hS.new z1 o1) hL
  rw [List.map_cons, show tV (aR (sz_ u)) = Value.ref H.size by rw [hR.1]; rfl] at this
  exact this
end NEW
section CALL
variable {X : Ctx_} {own : String} {cc : ByteArray} {ret : Option FieldType} {d mc ms : Nat} {Q : Option AV → Mem → Prop} {pc : Nat} {ls : List (Option AV)} {st : List AV} {u : Mem} {cu su : Nat}
  {y : MethodName} {bytes : ByteArray} {maxL : Nat} {rt : Option FieldType} {d' mc' ms' : Nat} {av : List AV} {Q' : Option AV → Mem → Prop}
theorem rV_map (l : List AV) : (l.map tV).map (fun v => v.category) = l.map catA := by
  rw [List.map_map]
  congr 1
  funext v
  exact catA_eq v
/-- what a call's start asks of the callee's contract -/
theorem pre_blind {av : List AV} {D : Dx_} {B : Nat} {u : Mem} : FrameBlind (va_Pc (av.map tV) (fun U => B ≤ U.heap.size ∧ KK_ D B U ∧ Rep_ D B u U.heap)) := by
  intro a U g mk q
  obtain ⟨q0, q1, ⟨k1, k2, k3⟩, q3⟩ := q
  exact ⟨q0, q1, ⟨va_K.moved (u := U) (U := U.calling g mk a) (Vm.Alike.refl U.vm) k1, ⟨fun q hq => va_Nw.same rfl rfl (k2.1 q hq), fun q hq => va_Nw.same rfl rfl (k2.2.1 q hq), fun q hq => va_Nw.same rfl rfl (k2.2.2.1 q hq), va_AO.moved (u := U) (Vm.Alike.refl U.vm) k2.2.2.2.1, va_AO.moved (u := U) (Vm.Alike.refl U.vm) k2.2.2.2.2.1, va_AO.moved (u := U) (Vm.Alike.refl U.vm) k2.2.2.2.2.2.1, fun q hq => va_Nw.same rfl rfl (k2.2.2.2.2.2.2.1 q hq), fun q hq => va_Nc.moved (u := U) (Vm.Alike.refl U.vm) (k2.2.2.2.2.2.2.2.1 q hq), fun q hq => by
    obtain ⟨a, ha⟩ := k2.2.2.2.2.2.2.2.2 q hq
    exact ⟨a, vk_R.same (u := U) rfl ha⟩⟩, k3.to (s := U) (Vm.Alike.refl U.vm) (fun _ _ _ => rfl)⟩, q3⟩
/-- the run of a call, and what comes behind it -/
theorem z_cont {p : Program} {l : Launch} {e : Env} {R : Room} {s : State} {m : MethodId} {args : Array Value} {below : List Frame} {meth : Method} {c : Code} {D : Dx_} {B : Nat} {F : State → Prop} {H : Heap} {locs : List Loc} {la : Array Slot} {stk : List Value} {as : Array Value}
    (hS : va_S (fun q => B ≤ q) s.heap H locs) (hL : Lv_ la ls)
    (hr : va_Run p l e R s m args below meth c H locs cu su mc' ms' (F0 m pc la stk) (st.map tV) (Qc_ D B Q' as) (fun q => B ≤ q))
    (kk : ∀ (r : Option AV) (u' : Mem), Q' r u' → Z (p, l, e, R, s, m, args, below, meth, c, D, B, F) (pc + 3) ls (r.toList ++ st) u' (cu + mc') (su + ms')) : W p l e R s m args below meth c H locs cu su F (F0 m pc la stk) := by
  intro T hT Y
  obtain ⟨v, st₀, t, T', L, h0, Y', hL', e1, e2, ⟨⟨r, u', hv, hq, hR'⟩, hz, hk⟩, hst⟩ := hr T hT Y
  have hv' : v = r.map tV := by cases hv; rfl
  subst hv'
  rw [h0] at hz hk
  have hS' : va_S (fun q => B ≤ q) s.heap T'.heap (locs ++ L) := ⟨Nat.le_trans hS.1 (by rw [e1]; exact hz), fun q h1 h2 => by rw [e1, hk q (Nat.lt_of_lt_of_le h1 hS.1) h2]; exact hS.2.1 q h1 h2, fun q hq => by
      rcases List.mem_append.mp hq with h | h
      · exact hS.2.2 q h
      · exact hL' q h⟩
  obtain ⟨t2, a1, b1⟩ := kk r u' hq T'.heap (locs ++ L) la (by rw [e1]; exact hR') hS' hL T' rfl Y'
  refine ⟨t2, hst t2 ?_, b1⟩
  have hmap : (Option.map tV r).toList ++ st.map tV = (r.toList ++ st).map tV := by cases r <;> simp
  rw [hmap]
  exact a1
theorem z_pre {p : Program} {l : Launch} {e : Env} {R : Room} {s : State} {m : MethodId} {args : Array Value} {below : List Frame} {meth : Method} {c : Code} {D : Dx_} {B : Nat} {F : State → Prop} {H : Heap} {locs : List Loc}
    (ho : Ok_ (p, l, e, R, s, m, args, below, meth, c, D, B, F) own cc ret d mc ms Q) (hR : Rep_ D B u H) (hS : va_S (fun q => B ≤ q) s.heap H locs) : ∀ U : State, U.heap = H → s.WarmedH U.vm → va_Pc (av.map tV) (fun U => B ≤ U.heap.size ∧ KK_ D B U ∧ Rep_ D B u U.heap) (av.map tV).toArray U := by
  obtain ⟨hx, hb, hret, hlk, hown, hts, hK, hB, hRm, hF⟩ := ho
  intro U hU hW
  exact ⟨rfl, by rw [hU]; exact Nat.le_trans hB hS.1, hK.moved hW (fun a h1 h2 => by rw [hU]; exact hS.2.1 a h1 h2), by rw [hU]; exact hR⟩
/-- invokestatic -/
theorem z_callS (ho : Ok_ X own cc ret d mc ms Q) {n idx : Nat} (hN : Nl_ X ls.length) (hM : Mt_ (La_ X) y bytes maxL rt d' mc' ms' av u Q') (hw : GoodIn lw_all (va_wsS own idx y (ws_ y bytes maxL rt))) (hy : y.cls ≠ "java/lang/invoke/MethodHandle" ∧ y.cls ≠ "java/lang/invoke/VarHandle" ∧ (parseMethodDescriptor y.desc).map (fun d => d.parameters.length) = some n) (hn : av.length = n) (hml : maxL ≤ 21)
    (hdp : d' + 1 ≤ d) (hd : decode cc pc = .ok (.invokestatic idx, 3)) (hcat : (st.map catA).sum ≤ 8) {cu' su' : Nat} (hcu : cu + mc' = cu') (hsu : su + ms' = su') (hcm : cu' ≤ mc) (hsm : su' ≤ ms) {stk : List AV} (hstk : stk = av.reverse ++ st) (kk : ∀ (r : Option AV) (u' : Mem), Q' r u' → Z X (pc + 3) ls (r.toList ++ st) u' cu' su') : Z X pc ls stk u cu su := by
  subst hcu; subst hsu; subst hstk
  obtain ⟨p, l, e, R, s, m, args, below, meth, c, D, B, F⟩ := X
  intro H locs la hR hS hL
  have hpre := z_pre (av := av) ho hR hS
  obtain ⟨hx, hb, hret, hlk, hown, hts, hK, hB, hRm, hF⟩ := ho
  subst hRm
  exact z_cont hS hL (va_runS (Ts := lw_all) (nL := ls.length) (As := av.map tV) (n := n) ⟨hx, hb, hN, hown, hts⟩ (hM D B) (va_cwS n hts hw rfl rfl rfl hy ⟨hdp, by show 8 + (maxL + 11) + 40 * d' ≤ 40 * d; omega⟩) ⟨pre_blind, hpre⟩ rfl (by rw [List.length_map]; exact hn) hL.1 (by simp) (by rw [rV_map]; show 2 * 0 + _ ≤ 8; omega) hd ⟨hcm, hsm⟩) kk
/-- invokespecial <init> -/
theorem z_callI (ho : Ok_ X own cc ret d mc ms Q) {n idx b : Nat} (hN : Nl_ X ls.length) (hM : Mt_ (La_ X) y bytes maxL none d' mc' ms' (aR b :: av) u Q') (hb0 : b ≠ 0) (hy1 : y.name = "<init>") (hw : GoodIn lw_all (ws_ y bytes maxL none)) (hini : Cond.initialized y.cls ∈ lw_all) (hl : Cond.methodLink own idx y ∈ lw_all) (hin : Cond.instanceMethod y ∈ lw_all) (hy : y.cls ≠ "java/lang/invoke/MethodHandle" ∧ y.cls ≠ "java/lang/invoke/VarHandle" ∧ (parseMethodDescriptor y.desc).map (fun d => d.parameters.length) = some n) (hn : av.length = n) (hml : maxL ≤ 21)
    (hdp : d' + 1 ≤ d) (hd : decode cc pc = .ok (.invokespecial idx, 3)) (hcat : (st.map catA).sum ≤ 8) {cu' su' : Nat} (hcu : cu + mc' = cu') (hsu : su + ms' = su') (hcm : cu' ≤ mc) (hsm : su' ≤ ms) {stk : List AV} (hstk : stk = av.reverse ++ aR b :: st) (kk : ∀ (r : Option AV) (u' : Mem), Q' r u' → Z X (pc + 3) ls (r.toList ++ st) u' cu' su') : Z X pc ls stk u cu su := by
  subst hcu; subst hsu; subst hstk
  obtain ⟨p, l, e, R, s, m, args, below, meth, c, D, B, F⟩ := X
  intro H locs la hR hS hL
  cases b with
  | zero => exact absurd rfl hb0
  | succ b =>
    have hpre := z_pre (av := aR (b + 1) :: av) ho hR hS
    obtain ⟨hx, hb, hret, hlk, hown, hts, hK, hB, hRm, hF⟩ := ho
    subst hRm
    exact z_cont hS hL (va_runI (Ts := lw_all) (nL := ls.length) (As := av.map tV) (n := n) (b := b) ⟨hx, hb, hN, hown, hts⟩ (hM D B) (cwI n hts hw rfl rfl rfl (hts _ hini) (hts _ hl) (hts _ hin) hy1 hy ⟨hdp, by show 8 + (maxL + 11) + 40 * d' ≤ 40 * d; omega⟩) ⟨pre_blind, hpre⟩ rfl (by rw [List.length_map]; exact hn) hL.1 (by simp [tV, rV]) (by rw [rV_map]; show 2 * 0 + _ ≤ 8; omega) hd ⟨hcm, hsm⟩) kk
theorem z_recv {D : Dx_} {B : Nat} {s : State} {H : Heap} {K b : Nat} {C : String} {T : u_T} {N : Nat} (hK : KK_ D B s) (hR : Rep_ D B u H) (hc : cls_[K]? = some (C, T, N)) (hK0 : K ≠ 0 ∧ K < 100) (hkb : kd_ u (b + 1) = K) : ∃ cellB : Cell, H[b]? = some cellB ∧ cellB.vm.isStatics = false ∧ s.vm.findClass C = some cellB.cls := by
  obtain ⟨cell, q1, q2, q3, -⟩ := (hR.2.2.1 b (by rw [hkb]; exact hK0.1)).2.obj hkb hK0.2
  exact ⟨cell, q1, by rw [q3]; rfl, by rw [q2]; exact (hK.1.1 K _ hc).2.1⟩
/-- invokevirtual, the receiver's class declares the method itself -/
theorem z_callV (ho : Ok_ X own cc ret d mc ms Q) {n idx b K : Nat} {C : String} {T : u_T} {N : Nat} (hN : Nl_ X ls.length) (hM : Mt_ (La_ X) y bytes maxL rt d' mc' ms' (aR b :: av) u Q') (hc : cls_[K]? = some (C, T, N)) (hK0 : K ≠ 0 ∧ K < 100) (hkb : kd_ u b = K) (hw : GoodIn lw_all (wsV own idx C y (ws_ y bytes maxL rt))) (hy : y.cls = C ∧ y.cls ≠ "java/lang/invoke/MethodHandle" ∧ y.cls ≠ "java/lang/invoke/VarHandle" ∧ (parseMethodDescriptor y.desc).map (fun d => d.parameters.length) = some n) (hn : av.length = n) (hml : maxL ≤ 21)
    (hdp : d' + 1 ≤ d) (hd : decode cc pc = .ok (.invokevirtual idx, 3)) (hcat : (st.map catA).sum ≤ 8) {cu' su' : Nat} (hcu : cu + mc' = cu') (hsu : su + ms' = su') (hcm : cu' ≤ mc) (hsm : su' ≤ ms) {stk : List AV} (hstk : stk = av.reverse ++ aR b :: st) (kk : ∀ (r : Option AV) (u' : Mem), Q' r u' → Z X (pc + 3) ls (r.toList ++ st) u' cu' su') : Z X pc ls stk u cu su := by
  subst hcu; subst hsu; subst hstk
  obtain ⟨p, l, e, R, s, m, args, below, meth, c, D, B, F⟩ := X
  intro H locs la hR hS hL
  cases b with
  | zero => rw [hR.2.1] at hkb; exact absurd hkb.symm hK0.1
  | succ b =>
    have hpre := z_pre (av := aR (b + 1) :: av) ho hR hS
    obtain ⟨hx, hb, hret, hlk, hown, hts, hK, hB, hRm, hF⟩ := ho
    subst hRm
    exact z_cont hS hL (va_runV (Ts := lw_all) (nL := ls.length) (As := av.map tV) (n := n) (b := b) ⟨hx, hb, hN, hown, hts⟩ (hM D B) (cwV n hts hw rfl rfl rfl hy ⟨hdp, by show 8 + (maxL + 11) + 40 * d' ≤ 40 * d; omega⟩) ⟨pre_blind, z_recv hK hR hc hK0 hkb, hpre⟩ rfl (by rw [List.length_map]; exact hn) hL.1 (by simp [tV, rV]) (by rw [rV_map]; show 2 * 0 + _ ≤ 8; omega) hd ⟨hcm, hsm⟩) kk
/-- invokevirtual of x, which the receiver's class C inherits or overrides: y is run -/
theorem z_callU (ho : Ok_ X own cc ret d mc ms Q) {n idx b K : Nat} {C owner : String} {T : u_T} {N : Nat} {x : MethodName} (hN : Nl_ X ls.length) (hM : Mt_ (La_ X) y bytes maxL rt d' mc' ms' (aR b :: av) u Q') (hc : cls_[K]? = some (C, T, N)) (hK0 : K ≠ 0 ∧ K < 100) (hkb : kd_ u b = K)
    (hw : Cond.code y bytes maxL rt ∈ lw_all) (hini : Cond.initialized y.cls ∈ lw_all) (hl : Cond.methodLink own idx x ∈ lw_all) (hsm0 : Cond.sameMethod x.cls owner x.name x.desc ∈ lw_all) (hsel : Cond.selects C x y ∈ lw_all) (hin : Cond.instanceMethod y ∈ lw_all) (hdc : (⟨owner, x.name, x.desc⟩ : MethodName) ∈ nestD_ ∨ (y = ⟨owner, x.name, x.desc⟩))
    (hy : owner ≠ "java/lang/invoke/MethodHandle" ∧ owner ≠ "java/lang/invoke/VarHandle" ∧ (parseMethodDescriptor x.desc).map (fun d => d.parameters.length) = some n) (hn : av.length = n) (hml : maxL ≤ 21)
    (hdp : d' + 1 ≤ d) (hd : decode cc pc = .ok (.invokevirtual idx, 3)) (hcat : (st.map catA).sum ≤ 8) {cu' su' : Nat} (hcu : cu + mc' = cu') (hsu : su + ms' = su') (hcm : cu' ≤ mc) (hsm : su' ≤ ms) {stk : List AV} (hstk : stk = av.reverse ++ aR b :: st) (kk : ∀ (r : Option AV) (u' : Mem), Q' r u' → Z X (pc + 3) ls (r.toList ++ st) u' cu' su') : Z X pc ls stk u cu su := by
  subst hcu; subst hsu; subst hstk
  obtain ⟨p, l, e, R, s, m, args, below, meth, c, D, B, F⟩ := X
  intro H locs la hR hS hL
  cases b with
  | zero => rw [hR.2.1] at hkb; exact absurd hkb.symm hK0.1
  | succ b =>
    have hpre := z_pre (av := aR (b + 1) :: av) ho hR hS
    obtain ⟨hx, hb, hret, hlk, hown, hts, hK, hB, hRm, hF⟩ := ho
    subst hRm
    have hdecl : va_Decl s ⟨owner, x.name, x.desc⟩ := by
      rcases hdc with h | h
      · exact va_Decl.abs (hK.2.1.2.2.2.2.2.2.1 _ h)
      · rw [← h]; exact va_Decl.of (hts _ hin) (hts _ hw)
    have hlen : ∀ sig, parseMethodDescriptor x.desc = some sig → n = sig.parameters.length := by
      intro sig h
      have h2 := hy.2.2
      rw [h] at h2
      exact (Option.some.inj h2).symm
    exact z_cont hS hL (va_runU (Ts := lw_all) (nL := ls.length) (As := av.map tV) (n := n) (b := b) (C := C) (owner := owner) (x := x) (rm := Rm_ d' mc' ms') ⟨hx, hb, hN, hown, hts⟩ (hM D B) ⟨⟨rfl, rfl, hdp, by show 8 + (maxL + 11) + 40 * d' ≤ 40 * d; omega, pay_in hts (lw_meth hw), List.mem_cons_self⟩, hts _ hw, hts _ hini, ⟨hy.1, hy.2.1⟩, hlen, hts _ hl, hts _ hsm0, hdecl, hts _ hsel, hts _ hin⟩ ⟨pre_blind, z_recv hK hR hc hK0 hkb, hpre⟩ rfl (by rw [List.length_map]; exact hn) hL.1 (by simp [tV, rV]) (by rw [rV_map]; show 2 * 0 + _ ≤ 8; omega) hd ⟨hcm, hsm⟩) kk
/-- invokevirtual of a nest mate's private method -/
theorem z_callVN (ho : Ok_ X own cc ret d mc ms Q) {n idx b K : Nat} {C : String} {T : u_T} {N : Nat} (hN : Nl_ X ls.length) (hM : Mt_ (La_ X) y bytes maxL rt d' mc' ms' (aR b :: av) u Q') (hc : cls_[K]? = some (C, T, N)) (hK0 : K ≠ 0 ∧ K < 100) (hkb : kd_ u b = K)
    (hw : Cond.code y bytes maxL rt ∈ lw_all) (hini : Cond.initialized y.cls ∈ lw_all) (hl : (own, idx, y) ∈ nestM_) (hsel : Cond.selects C y y ∈ lw_all) (hin : Cond.instanceMethod y ∈ lw_all)
    (hy : y.cls ≠ "java/lang/invoke/MethodHandle" ∧ y.cls ≠ "java/lang/invoke/VarHandle" ∧ (parseMethodDescriptor y.desc).map (fun d => d.parameters.length) = some n) (hn : av.length = n) (hml : maxL ≤ 21)
    (hdp : d' + 1 ≤ d) (hd : decode cc pc = .ok (.invokevirtual idx, 3)) (hcat : (st.map catA).sum ≤ 8) {cu' su' : Nat} (hcu : cu + mc' = cu') (hsu : su + ms' = su') (hcm : cu' ≤ mc) (hsm : su' ≤ ms) {stk : List AV} (hstk : stk = av.reverse ++ aR b :: st) (kk : ∀ (r : Option AV) (u' : Mem), Q' r u' → Z X (pc + 3) ls (r.toList ++ st) u' cu' su') : Z X pc ls stk u cu su := by
  subst hcu; subst hsu; subst hstk
  obtain ⟨p, l, e, R, s, m, args, below, meth, c, D, B, F⟩ := X
  intro H locs la hR hS hL
  cases b with
  | zero => rw [hR.2.1] at hkb; exact absurd hkb.symm hK0.1
  | succ b =>
    have hpre := z_pre (av := aR (b + 1) :: av) ho hR hS
    obtain ⟨hx, hb, hret, hlk, hown, hts, hK, hB, hRm, hF⟩ := ho
    subst hRm
    exact z_cont hS hL (va_runVN (Ts := lw_all) (nL := ls.length) (As := av.map tV) (n := n) (b := b) (C := C) (host := "KeyHall") (rm := Rm_ d' mc' ms') ⟨hx, hb, hN, hown, hts⟩ (hM D B) ⟨va_cnB n hts (lw_meth hw) rfl rfl rfl (hK.2.1.2.1 _ hl) (hts _ hini) hy ⟨hdp, by show 8 + (maxL + 11) + 40 * d' ≤ 40 * d; omega⟩, hts _ hin, hts _ hsel⟩ ⟨pre_blind, z_recv hK hR hc hK0 hkb, hpre⟩ rfl (by rw [List.length_map]; exact hn) hL.1 (by simp [tV, rV]) (by rw [rV_map]; show 2 * 0 + _ ≤ 8; omega) hd ⟨hcm, hsm⟩) kk
/-- invokespecial of a nest mate's constructor -/
theorem z_callIN (ho : Ok_ X own cc ret d mc ms Q) {n idx b : Nat} (hN : Nl_ X ls.length) (hM : Mt_ (La_ X) y bytes maxL none d' mc' ms' (aR b :: av) u Q') (hb0 : b ≠ 0) (hy1 : y.name = "<init>")
    (hw : Cond.code y bytes maxL none ∈ lw_all) (hini : Cond.initialized y.cls ∈ lw_all) (hl : (own, idx, y) ∈ nestM_) (hin : Cond.instanceMethod y ∈ lw_all)
    (hy : y.cls ≠ "java/lang/invoke/MethodHandle" ∧ y.cls ≠ "java/lang/invoke/VarHandle" ∧ (parseMethodDescriptor y.desc).map (fun d => d.parameters.length) = some n) (hn : av.length = n) (hml : maxL ≤ 21)
    (hdp : d' + 1 ≤ d) (hd : decode cc pc = .ok (.invokespecial idx, 3)) (hcat : (st.map catA).sum ≤ 8) {cu' su' : Nat} (hcu : cu + mc' = cu') (hsu : su + ms' = su') (hcm : cu' ≤ mc) (hsm : su' ≤ ms) {stk : List AV} (hstk : stk = av.reverse ++ aR b :: st) (kk : ∀ (r : Option AV) (u' : Mem), Q' r u' → Z X (pc + 3) ls (r.toList ++ st) u' cu' su') : Z X pc ls stk u cu su := by
  subst hcu; subst hsu; subst hstk
  obtain ⟨p, l, e, R, s, m, args, below, meth, c, D, B, F⟩ := X
  intro H locs la hR hS hL
  cases b with
  | zero => exact absurd rfl hb0
  | succ b =>
    have hpre := z_pre (av := aR (b + 1) :: av) ho hR hS
    obtain ⟨hx, hb, hret, hlk, hown, hts, hK, hB, hRm, hF⟩ := ho
    subst hRm
    exact z_cont hS hL (va_runIN (Ts := lw_all) (nL := ls.length) (As := av.map tV) (n := n) (b := b) (host := "KeyHall") (rm := Rm_ d' mc' ms') ⟨hx, hb, hN, hown, hts⟩ (hM D B) ⟨va_cnB n hts (lw_meth hw) rfl rfl rfl (hK.2.1.2.1 _ hl) (hts _ hini) hy ⟨hdp, by show 8 + (maxL + 11) + 40 * d' ≤ 40 * d; omega⟩, hy1, hts _ hin⟩ ⟨pre_blind, hpre⟩ rfl (by rw [List.length_map]; exact hn) hL.1 (by simp [tV, rV]) (by rw [rV_map]; show 2 * 0 + _ ≤ 8; omega) hd ⟨hcm, hsm⟩) kk
theorem z_objInit (ho : Ok_ X own cc ret d mc ms Q) {idx a : Nat} (hN : Nl_ X ls.length) (ha : a ≠ 0) (hl : Cond.methodLink own idx Lib.objectInit ∈ lw_all) (hd : decode cc pc = .ok (.invokespecial idx, 3)) (hdp : 1 ≤ d) (hcat : (st.map catA).sum ≤ 8) (hi : Cond.instanceMethod Lib.objectInit ∈ lw_all) (hc : Cond.code Lib.objectInit ⟨#[0xb1]⟩ 1 none ∈ lw_all) (kk : Z X (pc + 3) ls st u cu su) : Z X pc ls (aR a :: st) u cu su := by
  obtain ⟨p, l, e, R, s, m, args, below, meth, c, D, B, F⟩ := X
  obtain ⟨hx, hb, hret, hlk, hown, hts, hK, hB, hRm, hF⟩ := ho
  subst hRm
  intro H locs la hR hS hL
  cases a with
  | zero => exact absurd rfl ha
  | succ a =>
    refine W.objInit hx hb hown (hts _ hl) (hts _ hi) (hts _ hc) rfl (hL.1.trans hN.symm) rfl hd hdp ?_ (kk H locs la hR hS hL)
    rw [rV_map]
    show 2 * 0 + _ + 12 ≤ 40 * d
    omega
end CALL
