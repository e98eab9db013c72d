set_option maxRecDepth 100000
/-! ===== Twig.merge ===== -/
theorem c_merge (l : Launch) (u : Mem) {n m t : Nat} {rt : Bool} {p : List Int} {c : Kid} {es1 : List Nat} {cs1 : List Kid} (hD : TD u n rt p t [] [c]) (hK : TD u m false (p ++ pth u t ++ [c.1]) c.2.1 es1 cs1) (hf : c.2.2.2 = fpT u c.2.1 cs1) :
    Mt_ l yX6_merge cX6_merge 4 none 3 0 0 [aR t] u (qV fun u' => TD u' m false p t es1 cs1 ∧ (∀ a ∈ fpT u' t cs1, a ∈ fpT u t [c]) ∧ sz_ u' = sz_ u ∧ (∀ a, kd_ u' a = kd_ u a ∧ ln_ u' a = ln_ u a) ∧ ∀ a, a ≠ t → a ≠ rv_ u t 0 → Sm u u' a) := by
  refine Mt_of (by decide) (Nat.le_of_ble_eq_true rfl) (fun X ho hX hN hI => ?_)
  subst hX
  show Z X 0 [some (aR t), none, none, none] [] u 0 0
  refine z_wf (fun hw => ?_)
  have hlt := hD.lt hw
  obtain ⟨kt, ⟨kp, lp, n0, n1, hpx⟩, hF, he, hc, hnd, hne⟩ := hD
  have hene := hK.ene
  have hk5 := hK.k5
  have hes := (TR.mem hK.tn).2.2.1 rfl
  obtain ⟨kt', ⟨kp', lp', n0', n1', hpx'⟩, hF', he', hc', hnd', hne'⟩ := hK
  have hpl := pth_len n0
  have hpl' := pth_len n0'
  have hcr := hF.srt.2 (c.1, c.2.1) (mem_kx.mpr ⟨c, by simp, rfl⟩)
  simp only at hcr
  have hlen : (p.length : Int) + (pth u t).length + 1 + (pth u c.2.1).length ≤ 16 := by
    obtain ⟨e, he⟩ := List.exists_mem_of_ne_nil _ hes
    obtain ⟨h1, s, h2⟩ := hene e he
    have := h1.1.oc_len.2
    rw [h2] at this
    simp at this
    omega
  have eft : fpT u t [c] = t :: rv_ u t 0 :: (fpF u (rv_ u t 3) ++ fpT u c.2.1 cs1) := by
    unfold fpT at hf ⊢
    rw [← hf]
    simp [kf_]
  rw [eft] at hnd hlt
  obtain ⟨nd1, nd2⟩ := List.nodup_cons.mp hnd
  obtain ⟨nd3, nd4⟩ := List.nodup_cons.mp nd2
  have nd5 := (List.nodup_append.mp nd4).2.1
  have ntp : rv_ u t 0 ≠ t := fun z => by rw [z] at kp; omega
  have hfn : ∀ a ∈ fpT u c.2.1 cs1, a ≠ t ∧ a ≠ rv_ u t 0 := fun a ha => ⟨fun z => nd1 (by rw [← z]; simp [ha]), fun z => nd3 (by rw [← z]; simp [ha])⟩
  have hT1 := hfn c.2.1 (by simp [fpT])
  have hT2 := hfn (rv_ u c.2.1 0) (by simp [fpT])
  generalize hP : rv_ u t 0 = P at *
  generalize hS : c.2.1 = S at *
  refine z_aload_n ho dX6_merge_0 rfl ?_
  refine gX6_18 ho dX6_merge_1 kt ?_
  refine z_iconst ho dX6_merge_4 ?_
  refine or_call (hF.k2) (fun hq cc => kX6_49_8 ho hN (c_G8_from _ _ hF (by omega) (by omega) hq) dX6_merge_5 hq (by omega) (Nat.le_of_ble_eq_true rfl) (Nat.le_of_ble_eq_true rfl) (Nat.le_of_ble_eq_true rfl) cc) (fun hq cc => kX6_49_16 ho hN (c_G16_from _ _ hF (by omega) (by omega) hq) dX6_merge_5 hq (by omega) (Nat.le_of_ble_eq_true rfl) (Nat.le_of_ble_eq_true rfl) (Nat.le_of_ble_eq_true rfl) cc) (fun x5 u5 h5 => ?_)
  obtain ⟨rfl, hfr⟩ := h5
  rcases kid_first hF.srt hfr with ⟨z, -⟩ | ⟨c', cs', z, hr, hlk⟩
  · cases z
  cases z
  rw [hr] at hlk
  rw [hr]
  refine z_istore_n ho dX6_merge_8 (Nat.le_of_ble_eq_true rfl) rfl ?_
  refine z_aload_n ho dX6_merge_9 rfl ?_
  refine gX6_18 ho dX6_merge_10 kt ?_
  refine z_iload_n ho dX6_merge_13 rfl ?_
  refine or_call (hF.k2) (fun hq cc => kX6_54_8 ho hN (c_G8_get _ _ hF (by omega) (by omega) hq) dX6_merge_14 hq (by omega) (Nat.le_of_ble_eq_true rfl) (Nat.le_of_ble_eq_true rfl) (Nat.le_of_ble_eq_true rfl) cc) (fun hq cc => kX6_54_16 ho hN (c_G16_get _ _ hF (by omega) (by omega) hq) dX6_merge_14 hq (by omega) (Nat.le_of_ble_eq_true rfl) (Nat.le_of_ble_eq_true rfl) (Nat.le_of_ble_eq_true rfl) cc) (fun x14 u14 h14 => ?_)
  obtain ⟨rfl, rfl⟩ := h14
  rw [hlk, hS]
  refine z_astore_n ho dX6_merge_17 (Nat.le_of_ble_eq_true rfl) rfl ?_
  refine z_aload_n ho dX6_merge_18 rfl ?_
  refine gX6_9 ho dX6_merge_19 kt ?_
  refine z_aload_n ho dX6_merge_22 rfl ?_
  refine z_dup ho dX6_merge_23 rfl ?_
  refine gX6_29 ho dX6_merge_24 kt ?_
  refine z_dup_x1 ho dX6_merge_27 rfl rfl ?_
  refine z_iconst ho dX6_merge_28 ?_
  refine z_iadd ho dX6_merge_29 ?_
  refine pX6_29 ho dX6_merge_30 kt  ?_
  rw [hP, ← hpl]
  refine z_iload_n ho dX6_merge_33 rfl ?_
  refine z_iast ho dX6_merge_34 (by rw [kd_wI]; exact kp) (by omega) (by rw [ln_wI, lp]; omega) ?_
  refine z_iconst ho dX6_merge_35 ?_
  refine z_istore_n ho dX6_merge_36 (Nat.le_of_ble_eq_true rfl) rfl ?_
  have key : ∀ (C A : List Int) (v : Mem), pth u S = A ++ C → PL v P (pth u t ++ [c.1] ++ A) → iv_ v t 1 = (pth u t).length + 1 + A.length → (∀ i, rv_ v t i = rv_ u t i) → (∀ a, kd_ v a = kd_ u a ∧ ln_ v a = ln_ u a) → sz_ v = sz_ u → (∀ a, a ≠ t → a ≠ P → Sm u v a) → Z X 37 [some (aR t), some (aI c.1), some (aR S), some (aI (A.length : Int))] [] v 0 0 := by
    intro C
    induction C with
    | nil =>
      intro A v h1 h2 h3 h4 h5 h6 h7
      rw [List.append_nil] at h1
      have hA : (pth u S).length = A.length := by rw [h1]
      have sS := h7 S hT1.1 hT1.2
      have kSv : kd_ v S = 6 := by rw [sS.1]; exact kt'
      have ktv : kd_ v t = 6 := by rw [(h5 t).1]; exact kt
      have e1 : iv_ v S 1 = A.length := by rw [sS.2.2.1, ← hpl', h1]
      refine z_iload_n ho dX6_merge_37 rfl ?_
      refine z_aload_n ho dX6_merge_38 rfl ?_
      refine gX6_29 ho dX6_merge_39 kSv ?_
      refine z_icmp_ge (tgt := 73) ho dX6_merge_42 (by decide) (by unfold rng; omega) (by rw [e1]; unfold rng; omega) (fun c42 => ?_) (fun c42 => ?_)
      · 
        refine z_aload_n ho dX6_merge_73 rfl ?_
        refine z_aload_n ho dX6_merge_74 rfl ?_
        refine gX6_37 ho dX6_merge_75 kSv ?_
        refine pX6_37 ho dX6_merge_78 ktv  ?_
        refine z_aload_n ho dX6_merge_81 rfl ?_
        refine z_aload_n ho dX6_merge_82 rfl ?_
        refine gX6_18 ho dX6_merge_83 kSv ?_
        refine pX6_18 ho dX6_merge_86 ktv  ?_
        refine r_V ho dX6_merge_89 (Nat.le_of_ble_eq_true rfl) (Nat.le_of_ble_eq_true rfl) ?_
        rw [rv_wR, if_neg (fun z => hT1.1 z.1), sS.2.2.2, sS.2.2.2]
        generalize hw9 : wR_ (wR_ v t 2 (rv_ u S 2)) t 3 (rv_ u S 3) = w
        have O : ∀ a, a ≠ t → Sm v w a := fun a ha => by rw [← hw9]; exact (Sm.wR ha).tr (Sm.wR ha)
        have kk : ∀ a, kd_ w a = kd_ u a ∧ ln_ w a = ln_ u a := fun a => by rw [← hw9]; exact h5 a
        have sm : ∀ a, a ≠ t → a ≠ P → Sm u w a := fun a z1 z2 => (h7 a z1 z2).tr (O a z1)
        have r0 : rv_ w t 0 = P := by rw [← hw9, rv_wR, if_neg (by omega), rv_wR, if_neg (by omega), h4]; exact hP
        have r2 : rv_ w t 2 = rv_ u S 2 := by rw [← hw9, rv_wR, if_neg (by omega), rv_wR, if_pos ⟨rfl, rfl⟩]
        have r3 : rv_ w t 3 = rv_ u S 3 := by rw [← hw9, rv_wR, if_pos ⟨rfl, rfl⟩]
        have i1 : iv_ w t 1 = (pth u t).length + 1 + A.length := by rw [← hw9]; exact h3
        have ep : pth w t = pth u t ++ [c.1] ++ pth u S := by
          rw [h1]
          refine PL.path ?_ (by rw [i1]; simp; omega)
          rw [r0]
          exact h2.same (fun i => (O P ntp).2.2.1 i)
        have hen : ∀ e ∈ es1 ++ ke cs1, En w e ∧ tx w e = tx u e := fun e hee => by
          have h1 := (hene e hee).1
          have s1 := sm e (fun z => by rw [z] at h1; have := h1.2; omega) (fun z => by rw [z] at h1; have := h1.2; omega)
          have := h1.1.same s1 (sm (e + 1) (fun z => by have := h1.1.2.2.1; rw [z] at this; omega) (fun z => by have := h1.1.2.2.1; rw [z] at this; omega))
          exact ⟨⟨this.1, by rw [s1.1]; exact h1.2⟩, this.2⟩
        have hsF : ∀ a ∈ fpF u (rv_ u S 3) ++ kf_ cs1, Sm u w a := fun a ha => by
          have := hfn a (by unfold fpT; simp [List.mem_append.mp ha])
          exact sm a this.1 this.2
        obtain ⟨f1, f2⟩ := hF'.same (v := w) (fun a ha => hsF a (by simp [ha]))
        have epp : p ++ pth w t = p ++ pth u t ++ [c.1] ++ pth u S := by rw [ep]; simp
        have ef : fpT w t cs1 = t :: P :: (fpF u (rv_ u S 3) ++ kf_ cs1) := by unfold fpT; rw [r0, r3, f2]
        refine ⟨⟨by rw [(kk t).1]; exact kt, ⟨by rw [r0, (kk P).1]; exact kp, by rw [r0, (kk P).2]; exact lp, by omega, by rw [h1] at hlen; omega, fun x hx => ?_⟩, by rw [r3]; exact f1, ?_, fun d hd => ?_, ?_, Or.inr (by rw [r2]; simpa using hne')⟩, fun a ha => ?_, by rw [← hw9]; exact h6, kk, sm⟩
        · rw [ep] at hx
          simp at hx
          rcases hx with q | q | q
          · exact hpx x q
          · rw [q]; omega
          · exact hpx' x q
        · rw [r2, epp]
          rcases he' with z | ⟨z1, z2, z3⟩
          · exact Or.inl z
          · have := hen (rv_ u S 2) (by rw [z3]; simp)
            exact Or.inr ⟨this.1, by unfold oc; rw [this.2]; exact z2, z3⟩
        · rw [epp]
          exact TT.frame _ _ _ _ _ (hc' d hd) (fun a ha => hsF a (by simp [mem_kf.mpr ⟨d, hd, ha⟩])) (fun e hee => hen e (by simp [mem_ke.mpr ⟨d, hd, hee⟩]))
        · rw [ef]
          have nd6 : (fpF u (rv_ u S 3) ++ kf_ cs1).Nodup := by
            unfold fpT at nd5
            exact (List.nodup_cons.mp (List.nodup_cons.mp nd5).2).2
          refine List.nodup_cons.mpr ⟨fun z => ?_, List.nodup_cons.mpr ⟨fun z => ?_, nd6⟩⟩
          · rcases List.mem_cons.mp z with q | q
            · exact ntp q.symm
            · exact (hfn t (by unfold fpT; simp [List.mem_append.mp q])).1 rfl
          · exact (hfn P (by unfold fpT; simp [List.mem_append.mp z])).2 rfl
        · rw [ef] at ha
          rw [eft]
          simp only [List.mem_cons] at ha ⊢
          rcases ha with q | q | q
          · exact Or.inl q
          · exact Or.inr (Or.inl q)
          · exact Or.inr (Or.inr (List.mem_append_right _ (by unfold fpT; simp [List.mem_append.mp q])))
      · omega
    | cons x C ih =>
      intro A v h1 h2 h3 h4 h5 h6 h7
      have sS := h7 S hT1.1 hT1.2
      have sP := h7 (rv_ u S 0) hT2.1 hT2.2
      have kSv : kd_ v S = 6 := by rw [sS.1]; exact kt'
      have ktv : kd_ v t = 6 := by rw [(h5 t).1]; exact kt
      have hl : (pth u S).length = A.length + (C.length + 1) := by rw [h1]; simp
      have e1 : iv_ v S 1 = A.length + (C.length + 1) := by rw [sS.2.2.1, ← hpl', hl]; omega
      have r0 : rv_ v t 0 = P := by rw [h4]; exact hP
      have et : ∀ y : Int, iv_ (wI_ v t 1 y) (rv_ (wI_ v t 1 y) S 0) (A.length : Int) = x := fun y => by
        rw [rv_wI, sS.2.2.2, iv_wI, if_neg (fun z => hT2.1 z.1), sP.2.2.1]
        exact pth_get h1
      refine z_iload_n ho dX6_merge_37 rfl ?_
      refine z_aload_n ho dX6_merge_38 rfl ?_
      refine gX6_29 ho dX6_merge_39 kSv ?_
      refine z_icmp_ge (tgt := 73) ho dX6_merge_42 (by decide) (by unfold rng; omega) (by rw [e1]; unfold rng; omega) (fun c42 => ?_) (fun c42 => ?_)
      · omega
      · 
        refine z_aload_n ho dX6_merge_45 rfl ?_
        refine gX6_9 ho dX6_merge_46 ktv ?_
        refine z_aload_n ho dX6_merge_49 rfl ?_
        refine z_dup ho dX6_merge_50 rfl ?_
        refine gX6_29 ho dX6_merge_51 ktv ?_
        refine z_dup_x1 ho dX6_merge_54 rfl rfl ?_
        refine z_iconst ho dX6_merge_55 ?_
        refine z_iadd ho dX6_merge_56 ?_
        refine pX6_29 ho dX6_merge_57 ktv  ?_
        refine z_aload_n ho dX6_merge_60 rfl ?_
        refine gX6_9 ho dX6_merge_61 kSv ?_
        refine z_iload_n ho dX6_merge_64 rfl ?_
        refine z_iald ho dX6_merge_65 (by rw [kd_wI, rv_wI, sS.2.2.2, sP.1]; exact kp') (by omega) (by rw [ln_wI, rv_wI, sS.2.2.2, sP.2.1]; omega) ?_
        rw [et, r0, h3]
        refine z_iast ho dX6_merge_66 (by rw [kd_wI, (h5 _).1]; exact kp) (by omega) (by rw [ln_wI, (h5 _).2, lp]; omega) ?_
        refine z_iinc ho dX6_merge_67 rfl rfl ?_
        refine z_goto (tgt := 37) ho dX6_merge_70 (by decide) ?_
        have := ih (A ++ [x]) (wI_ (wI_ v t 1 (↑(pth u t).length + 1 + ↑A.length + 1)) P (↑(pth u t).length + 1 + ↑A.length) x) (by rw [h1]; simp) (by
          have := PL.snoc (x := x) (i := ↑(pth u t).length + 1 + ↑A.length) (h2.same (v' := wI_ v t 1 (↑(pth u t).length + 1 + ↑A.length + 1)) (fun i => by rw [iv_wI, if_neg (fun z => ntp z.1)])) (by simp; omega)
          rw [List.append_assoc] at this
          exact this) (by rw [iv_wI, if_neg (fun z => ntp z.1.symm), iv_wI, if_pos ⟨rfl, rfl⟩]; simp; omega) (fun i => h4 i) h5 h6 (fun a q1 q2 => ((h7 a q1 q2).tr (Sm.wI q1)).tr (Sm.wI q2))
        rw [List.length_append] at this
        exact this
  have e0 : PL (wI_ (wI_ u t 1 (↑(pth u t).length + 1)) P ↑(pth u t).length c.1) P (pth u t ++ [c.1] ++ []) := by
    rw [List.append_nil]
    refine PL.snoc (PL.same (v := u) ?_ (fun i => by rw [iv_wI, if_neg (fun z => ntp z.1)])) rfl
    have := PL.of_pth (v := u) (t := t)
    rw [hP] at this
    exact this
  have e1 : iv_ (wI_ (wI_ u t 1 (↑(pth u t).length + 1)) P ↑(pth u t).length c.1) t 1 = ↑(pth u t).length + 1 + (([] : List Int).length : Int) := by
    rw [iv_wI, if_neg (fun z => ntp z.1.symm), iv_wI, if_pos ⟨rfl, rfl⟩]
    simp
  have := key (pth u S) [] _ (List.nil_append _).symm e0 e1 (fun _ => rfl) (fun _ => ⟨rfl, rfl⟩) rfl (fun a q1 q2 => (Sm.wI q1).tr (Sm.wI q2))
  rw [show (([] : List Int).length : Int) = 0 from rfl] at this
  exact this
