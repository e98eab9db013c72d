set_option maxRecDepth 100000
theorem room_more {s : State} {pl : Platform} {r r' : Room} (hf : r.frames ≤ r'.frames) (hl : r.locals ≤ r'.locals) (hc : r.cells ≤ r'.cells) (hs : r.slots ≤ r'.slots) (h : s.hasRoom pl r' = true) : s.hasRoom pl r = true := by
  simp only [State.hasRoom, Bool.and_eq_true, decide_eq_true_eq] at h ⊢
  obtain ⟨⟨⟨⟨y, a, b, c, d, e⟩, f⟩, g⟩, i⟩ := h
  refine ⟨⟨⟨⟨?_, ?_, ?_, ?_, ?_, e⟩, ?_⟩, ?_⟩, i⟩ <;> omega
theorem Mt_.weak {l : Launch} {y : MethodName} {cc : ByteArray} {nL : Nat} {ret : Option FieldType} {d mc ms d' mc' ms' : Nat} {av : List AV} {u : Mem} {Q Q' : Option AV → Mem → Prop} (h : Mt_ l y cc nL ret d mc ms av u Q) (hd : d ≤ d') (hc : mc ≤ mc') (hs : ms ≤ ms') (hq : ∀ r u', Q r u' → Q' r u') : Mt_ l y cc nL ret d' mc' ms' av u Q' := by
  intro D B
  have h1 := h D B
  unfold Met at h1 ⊢
  intro p e ha hcs hk s m args below hfr happ hP hK
  obtain ⟨a1, a2, a3, a4, a5, a6, a7, a8⟩ := (Spec.appliesLoose_iff hfr).mp happ
  have happ' : (headSpec (ws_ y cc nL ret) (Rm_ d mc ms)).appliesLoose y e.platform s = true := (Spec.appliesLoose_iff hfr).mpr ⟨a1, a2, a3, a4, a5, a6, room_more (r := Rm_ d mc ms) (r' := Rm_ d' mc' ms') hd (Nat.mul_le_mul_left 40 hd) hc hs a7, a8⟩
  refine (MetFree.mono (K' := fun _ _ _ _ _ => True) (Q' := fun a st o t => Qc_ D B Q' a st o t ∧ ∃ L, FrameEnd st o t L mc' ms' ∧ ∀ q ∈ L, (fun q => B ≤ q) q.base) h1 (fun _ _ h => h) (fun _ _ _ _ _ h => h) ?_) p e ha hcs hk s m args below hfr happ' hP trivial
  rintro a s o s' - ⟨⟨⟨r, v, e1, e2, e3⟩, e4⟩, L, ⟨f1, f2, f3⟩, f4⟩
  exact ⟨⟨⟨r, v, e1, hq r v e2, e3⟩, e4⟩, L, ⟨f1, f2, f3.mono hc hs⟩, f4⟩
theorem qR_mono {q q' : Nat → Mem → Prop} (h : ∀ r u, q r u → q' r u) : ∀ r u, qR q r u → qR q' r u := by
  rintro r u ⟨x, e, hx⟩
  exact ⟨x, e, h x u hx⟩
/-! ===== Fan.put, take ===== -/
/-- what put and take of a fan give -/
def PF (u u' : Mem) (f r : Nat) (xs : List (Int × Nat)) : Prop := Fn u' r xs ∧ (∀ a ∈ fpF u' r, a ∈ fpF u f ∨ sz_ u ≤ a) ∧ Fr (fun a _ => a ∈ fpF u f) u u'
theorem Fn.lt {u : Mem} {f : Nat} {xs : List (Int × Nat)} (hw : Wf u) (h : Fn u f xs) : ∀ a ∈ fpF u f, a < sz_ u := fun a ha => (hw.1 a (by have := h.kinds a ha; omega)).1
theorem F8.of_kd {u : Mem} {f : Nat} {xs : List (Int × Nat)} (h : Fn u f xs) (hk : kd_ u f = 8) : F8 u f xs := by
  rcases h with h | h
  · exact h
  · have := h.1; omega
theorem F16.of_kd {u : Mem} {f : Nat} {xs : List (Int × Nat)} (h : Fn u f xs) (hk : kd_ u f = 16) : F16 u f xs := by
  rcases h with h | h
  · have := h.1; omega
  · exact h
theorem c_F8_put (l : Launch) (u : Mem) {f t : Nat} {b : Int} {xs : List (Int × Nat)} (hFn : Fn u f xs) (hb : ∀ x ∈ xs, x.1 ≠ b) (h0 : 0 ≤ b) (h1 : b < 256) (ht : kd_ u t = 6) (htk : Tk u xs) (hroom : xs.length < 40) (hk8 : kd_ u f = 8) : Mt_ l yX8_put cX8_put 4 (some (.object "KeyHall$Fan")) 3 3 307 [aR f, aI b, aR t] u (qR fun r u' => PF u u' f r (ins b t xs)) := by
  have hF := F8.of_kd hFn hk8
  by_cases hfull : (xs.length : Int) < ln_ u (rv_ u f 1)
  · refine (c_F8_put_room l u hF hb h0 h1 ht htk hfull).weak (by omega) (by omega) (by omega) (qR_mono ?_)
    rintro r u' ⟨rfl, p1, p2, p3, p4, p5⟩
    refine ⟨Or.inl p1, fun a ha => Or.inl ?_, p4⟩
    unfold fpF at ha ⊢
    rw [p2, p3] at ha
    exact ha
  · obtain ⟨kf, ka, kb, la, lb, hs, hle, hsr, harr⟩ := hF
    have hF : F8 u f xs := ⟨kf, ka, kb, la, lb, hs, hle, hsr, harr⟩
    refine Mt_of (by decide) (Nat.le_of_ble_eq_true rfl) (fun X ho hX hN hI => ?_)
    subst hX
    show Z X 0 [some (aR f), some (aI b), some (aR t), none] [] u 0 0
    refine z_wf (fun hw => ?_)
    have hfl := Fn.lt hw hFn
    have htl := hw.1 t (by omega)
    have fin : ∀ (u1 : Mem) (g cu su : Nat), Fn u1 g [] → Roomy u1 g (xs.length + 1) → (∀ a ∈ fpF u1 g, sz_ u ≤ a) → (∀ a, a < sz_ u → Sm u u1 a) → sz_ u ≤ sz_ u1 → cu ≤ 3 → su ≤ 307 → Z X 40 [some (aR f), some (aI b), some (aR t), some (aR g)] [] u1 cu su := by
      intro u1 g cu su hG hR hfp hsm hz hcu hsu
      refine z_cu hcu hsu ?_
      have s8 := Fn.same (v := u1) (Or.inl hF) (fun a ha => hsm a (hfl a ha))
      have hF1 : F8 u1 f xs := F8.of_kd s8.1 (by rw [(hsm f (hfl f (by unfold fpF; simp))).1]; exact kf)
      have htk1 : Tk u1 xs := fun x hx => by
        have := htk x hx
        rw [(hsm x.2 (hw.1 x.2 (by omega)).1).1]; exact this
      refine z_aload_n ho dX8_put_40 rfl ?_
      refine z_aload_n ho dX8_put_41 rfl ?_
      refine kX8_35 ho hN (c_all _ _ hF1 htk1 hG (by unfold Roomy at hR ⊢; omega) (fun a ha q => by rw [s8.2] at ha; have := hfl a ha; have := hfp a q; omega)) dX8_put_42 hF1.1 (Nat.le_of_ble_eq_true rfl) (Nat.le_of_ble_eq_true rfl) (Nat.le_of_ble_eq_true rfl) (Nat.le_of_ble_eq_true rfl) (fun u42 h42 => ?_)
      obtain ⟨a1, a2, a3, a4⟩ := h42
      refine z_wf (fun hw42 => ?_)
      have hgl : ∀ a ∈ fpF u1 g, a < sz_ u1 := fun a ha => by rw [← a2] at ha; have := Fn.lt hw42 a1 a ha; omega
      have kt : kd_ u42 t = 6 := by rw [(a3.2 t (by omega)).1, (hsm t htl.1).1]; exact ht
      have smA : ∀ a, a < sz_ u → Sm u u42 a := fun a ha => (hsm a ha).tr ((a3.2 a (by omega)).2.2 (fun q => by have := hfp a q; omega))
      have htk42 : Tk u42 xs := fun x hx => by
        have := htk x hx
        rw [(smA x.2 (hw.1 x.2 (by omega)).1).1]; exact this
      have done : ∀ (r : Nat) (v : Mem), r = g → Fn v g (ins b t xs) → rv_ v g 1 = rv_ u42 g 1 → rv_ v g 2 = rv_ u42 g 2 → Fr (fun a _ => a ∈ fpF u42 g) u42 v → Z X 51 [some (aR f), some (aI b), some (aR t), some (aR g)] [aR r] v 3 307 := by
        intro r v hr p1 p2 p3 p4
        refine r_R ho dX8_put_51 (Nat.le_of_ble_eq_true rfl) (Nat.le_of_ble_eq_true rfl) ?_
        subst hr
        have e1 : fpF v r = fpF u1 r := by rw [← a2]; unfold fpF; rw [p2, p3]
        refine ⟨p1, fun a ha => Or.inr (hfp a (by rw [← e1]; exact ha)), by have := p4.1; omega, fun a ha => ?_⟩
        have sm2 : Sm u v a := (smA a ha).tr ((p4.2 a (by omega)).2.2 (fun q => by rw [a2] at q; have := hfp a q; omega))
        exact ⟨sm2.1, sm2.2.1, fun _ => sm2⟩
      rcases a1.kd with ⟨h8, k8⟩ | ⟨h16, k16⟩
      · have hr8 : (xs.length : Int) < ln_ u42 (rv_ u42 g 1) := by
          have e3 : rv_ u42 g 1 = rv_ u1 g 1 := by
            have : fpF u42 g = fpF u1 g := a2
            unfold fpF at this
            simp at this
            exact this.1
          rw [e3, (a3.2 (rv_ u1 g 1) (hgl _ (by unfold fpF; simp))).2.1]
          rcases hR with q | q
          · omega
          · rw [(a3.2 g (hgl _ (by unfold fpF; simp))).1] at k8; omega
        refine z_aload_n ho dX8_put_45 rfl ?_
        refine z_iload_n ho dX8_put_46 rfl ?_
        refine z_aload_n ho dX8_put_47 rfl ?_
        refine kX8_25_8 ho hN (c_F8_put_room _ _ h8 hb h0 h1 kt htk42 hr8) dX8_put_48 k8 (Nat.le_of_ble_eq_true rfl) (Nat.le_of_ble_eq_true rfl) (Nat.le_of_ble_eq_true rfl) (Nat.le_of_ble_eq_true rfl) (fun x48 u48 h48 => ?_)
        obtain ⟨p0, p1, p2, p3, p4, p5⟩ := h48
        exact done _ _ p0 (Or.inl p1) p2 p3 p4
      · 
        refine z_aload_n ho dX8_put_45 rfl ?_
        refine z_iload_n ho dX8_put_46 rfl ?_
        refine z_aload_n ho dX8_put_47 rfl ?_
        refine kX8_25_16 ho hN (c_F16_put _ _ h16 hb h0 h1 kt (by omega)) dX8_put_48 k16 (Nat.le_of_ble_eq_true rfl) (Nat.le_of_ble_eq_true rfl) (Nat.le_of_ble_eq_true rfl) (Nat.le_of_ble_eq_true rfl) (fun x48 u48 h48 => ?_)
        obtain ⟨p0, p1, p2, p3, p4, p5⟩ := h48
        exact done _ _ p0 (Or.inr p1) p2 p3 p4
    refine z_aload_n ho dX8_put_0 rfl ?_
    refine gX8_21 ho dX8_put_1 kf ?_
    refine z_aload_n ho dX8_put_4 rfl ?_
    refine gX8_9 ho dX8_put_5 kf ?_
    refine z_alen ho dX8_put_8 (by decide) ka ?_
    refine z_icmp_ne (tgt := 52) ho dX8_put_9 (by decide) (by rw [hs]; unfold rng; omega) (by unfold rng; omega) (fun c9 => ?_) (fun c9 => ?_)
    · rw [hs] at c9; omega
    · rw [hs] at c9
      refine z_aload_n ho dX8_put_12 rfl ?_
      refine gX8_21 ho dX8_put_13 kf ?_
      refine z_iconst ho dX8_put_16 ?_
      refine z_icmp_ne (tgt := 32) ho dX8_put_17 (by decide) (by rw [hs]; unfold rng; omega) (by unfold rng; omega) (fun c17 => ?_) (fun c17 => ?_)
      · 
        refine nX8_32 ho dX8_put_32 (Nat.le_of_ble_eq_true rfl) (Nat.le_of_ble_eq_true rfl) ?_
        refine z_dup ho dX8_put_35 rfl ?_
        refine kX8_34 ho hN (c_F16_init _ _ (by rw [kd_al, if_pos rfl]) rfl (fun i => by rw [iv_al, if_pos rfl])) dX8_put_36 (by have := hw.2.2; omega) (Nat.le_of_ble_eq_true rfl) (Nat.le_of_ble_eq_true rfl) (Nat.le_of_ble_eq_true rfl) (Nat.le_of_ble_eq_true rfl) (fun u36 h36 => ?_)
        obtain ⟨i1, i2, i3, i4, i5⟩ := h36
        refine z_astore_n ho dX8_put_39 (Nat.le_of_ble_eq_true rfl) rfl ?_
        refine fin _ _ _ _ (Or.inr i1) (Or.inr ⟨i1.1, by omega⟩) (fun a ha => ?_) (fun a ha => (Sm.al (by omega)).tr (i5 a ha)) (by rw [i4, sz_al]; omega) (by omega) (by omega)
        unfold fpF at ha
        rw [i2, i3] at ha
        simp at ha
        omega
      · 
        rw [hs] at c17
        refine nX8_10 ho dX8_put_20 (Nat.le_of_ble_eq_true rfl) (Nat.le_of_ble_eq_true rfl) ?_
        refine z_dup ho dX8_put_23 rfl ?_
        refine z_bipush ho dX8_put_24 rfl ?_
        refine kX8_29 ho hN (c_F8_init _ _ (by rw [kd_al, if_pos rfl]) (Or.inr rfl) rfl (fun i => by rw [iv_al, if_pos rfl])) dX8_put_26 (by have := hw.2.2; omega) (Nat.le_of_ble_eq_true rfl) (Nat.le_of_ble_eq_true rfl) (Nat.le_of_ble_eq_true rfl) (Nat.le_of_ble_eq_true rfl) (fun u26 h26 => ?_)
        obtain ⟨i1, i2, i3, i4, i5, i6⟩ := h26
        refine z_goto (tgt := 39) ho dX8_put_29 (by decide) ?_
        refine z_astore_n ho dX8_put_39 (Nat.le_of_ble_eq_true rfl) rfl ?_
        refine fin _ _ _ _ (Or.inl i1) (Or.inl ⟨i1.1, by rw [i2, i4]; omega⟩) (fun a ha => ?_) (fun a ha => (Sm.al (by omega)).tr (i6 a ha)) (by rw [i5, sz_al]; omega) (by omega) (by omega)
        unfold fpF at ha
        rw [i2, i3] at ha
        simp at ha
        omega
theorem c_F16_put' (l : Launch) (u : Mem) {f t : Nat} {b : Int} {xs : List (Int × Nat)} (hFn : Fn u f xs) (hb : ∀ x ∈ xs, x.1 ≠ b) (h0 : 0 ≤ b) (h1 : b < 256) (ht : kd_ u t = 6) (htk : Tk u xs) (hroom : xs.length < 40) (hk8 : kd_ u f = 16) : Mt_ l yX16_put cX16_put 4 (some (.object "KeyHall$Fan")) 3 3 307 [aR f, aI b, aR t] u (qR fun r u' => PF u u' f r (ins b t xs)) := by
  have hF := F16.of_kd hFn hk8
  refine (c_F16_put l u hF hb h0 h1 ht (by omega)).weak (by omega) (by omega) (by omega) (qR_mono ?_)
  rintro r u' ⟨rfl, p1, p2, p3, p4, p5⟩
  refine ⟨Or.inr p1, fun a ha => Or.inl ?_, p4⟩
  unfold fpF at ha ⊢
  rw [p2, p3] at ha
  exact ha
