set_option maxRecDepth 100000
/-! ===== fans of both kinds ===== -/
theorem or_call {A B C G : Prop} (h : A ∨ B) (f : A → C → G) (g : B → C → G) (c : C) : G := by
  rcases h with h | h
  · exact f h c
  · exact g h c
def Fn (u : Mem) (f : Nat) (xs : List (Int × Nat)) : Prop := F8 u f xs ∨ F16 u f xs
theorem Fn.kd {u : Mem} {f : Nat} {xs : List (Int × Nat)} (h : Fn u f xs) : F8 u f xs ∧ kd_ u f = 8 ∨ F16 u f xs ∧ kd_ u f = 16 := by
  rcases h with h | h
  · exact Or.inl ⟨h, h.1⟩
  · exact Or.inr ⟨h, h.1⟩
theorem Fn.isF {u : Mem} {f : Nat} {xs : List (Int × Nat)} (h : Fn u f xs) : isF_ u f := by
  rcases h with h | h
  · exact Or.inl h.1
  · exact Or.inr h.1
theorem Fn.srt {u : Mem} {f : Nat} {xs : List (Int × Nat)} (h : Fn u f xs) : Srt xs := by
  rcases h with h | h
  · exact h.2.2.2.2.2.2.2.1
  · exact h.2.2.2.2.2.2.1
theorem Fn.size {u : Mem} {f : Nat} {xs : List (Int × Nat)} (h : Fn u f xs) : iv_ u f 0 = xs.length := by
  rcases h with h | h
  · exact h.2.2.2.2.2.1
  · exact h.2.2.2.2.2.1
/-- the kinds of a fan's cells -/
theorem Fn.kinds {u : Mem} {f : Nat} {xs : List (Int × Nat)} (h : Fn u f xs) : ∀ a ∈ fpF u f, kd_ u a = 8 ∨ kd_ u a = 16 ∨ kd_ u a = 100 ∨ kd_ u a = 103 ∨ kd_ u a = 105 := by
  intro a ha
  unfold fpF at ha
  simp only [List.mem_cons, List.not_mem_nil, or_false] at ha
  rcases h with ⟨h1, h2, h3, -⟩ | ⟨h1, h2, -, h3, -⟩
  · rcases ha with rfl | rfl | rfl <;> omega
  · rcases ha with rfl | rfl | rfl <;> omega
theorem Fn.same {u v : Mem} {f : Nat} {xs : List (Int × Nat)} (h : Fn u f xs) (hs : ∀ a ∈ fpF u f, Sm u v a) : Fn v f xs ∧ fpF v f = fpF u f := by
  have sf := hs f (by unfold fpF; simp)
  have s1 := hs (rv_ u f 1) (by unfold fpF; simp)
  have s2 := hs (rv_ u f 2) (by unfold fpF; simp)
  have e1 : rv_ v f 1 = rv_ u f 1 := sf.2.2.2 1
  have e2 : rv_ v f 2 = rv_ u f 2 := sf.2.2.2 2
  refine ⟨?_, by unfold fpF; rw [e1, e2]⟩
  rcases h with ⟨kf, ka, kb, la, lb, hs, hle, hsr, harr⟩ | ⟨kf, ka, la, kb, lb, hs, hsr, hpl⟩
  · refine Or.inl ⟨by rw [sf.1]; exact kf, by rw [e1, s1.1]; exact ka, by rw [e2, s2.1]; exact kb, by rw [e1, s1.2.1]; exact la, by rw [e1, e2, s1.2.1, s2.2.1]; exact lb, by rw [sf.2.2.1]; exact hs, by rw [e1, s1.2.1]; exact hle, hsr, by rw [e1, e2]; exact harr.same s1 s2⟩
  · refine Or.inr ⟨by rw [sf.1]; exact kf, by rw [e1, s1.1]; exact ka, by rw [e1, s1.2.1]; exact la, by rw [e2, s2.1]; exact kb, by rw [e2, s2.2.1]; exact lb, by rw [sf.2.2.1]; exact hs, hsr, by rw [e1, e2]; exact hpl.same s1 s2⟩
/-- a fan that takes n pairs without growing -/
def Roomy (u : Mem) (g : Nat) (n : Nat) : Prop := (kd_ u g = 8 ∧ (n : Int) ≤ ln_ u (rv_ u g 1)) ∨ (kd_ u g = 16 ∧ n ≤ 48)
theorem c_all (l : Launch) (u : Mem) {f g : Nat} {xs : List (Int × Nat)} (hF : F8 u f xs) (htk : Tk u xs) (hG : Fn u g []) (hroom : Roomy u g xs.length) (hd : ∀ a ∈ fpF u f, a ∉ fpF u g) : Mt_ l yX8_all cX8_all 3 none 2 0 0 [aR f, aR g] u (qV fun u' => Fn u' g xs ∧ fpF u' g = fpF u g ∧ Fr (fun a _ => a ∈ fpF u g) u u' ∧ sz_ u' = sz_ u) := by
  refine Mt_of (by decide) (Nat.le_of_ble_eq_true rfl) (fun X ho hX hN hI => ?_)
  subst hX
  show Z X 0 [some (aR f), some (aR g), none] [] u 0 0
  refine z_wf (fun hw => ?_)
  have hFl : ∀ a ∈ fpF u f, a < sz_ u := fun a ha => (hw.1 a (by have := Fn.kinds (Or.inl hF) a ha; omega)).1
  refine z_iconst ho dX8_all_0 ?_
  refine z_istore_n ho dX8_all_1 (Nat.le_of_ble_eq_true rfl) rfl ?_
  have key : ∀ (B A : List (Int × Nat)) (v : Mem), xs = A ++ B → Fn v g A → fpF v g = fpF u g → Fr (fun a _ => a ∈ fpF u g) u v → sz_ v = sz_ u → Roomy v g xs.length → Z X 2 [some (aR f), some (aR g), some (aI (A.length : Int))] [] v 0 0 := by
    intro B
    induction B with
    | nil =>
      intro A v hx hg hfp hFr hz hR
      have sm : ∀ a ∈ fpF u f, Sm u v a := fun a ha => (hFr.2 a (hFl a ha)).2.2 (hd a ha)
      obtain ⟨hF', hfpf⟩ := Fn.same (Or.inl hF) sm
      have kf' : kd_ v f = 8 := by rw [(sm f (by unfold fpF; simp)).1]; exact hF.1
      have hs' := hF'.size
      have hl8 := hF.2.2.2.1
      have hl9 := hF.2.2.2.2.2.2.1
      refine z_iload_n ho dX8_all_2 rfl ?_
      refine z_aload_n ho dX8_all_3 rfl ?_
      refine gX8_21 ho dX8_all_4 kf' ?_
      refine z_icmp_ge (tgt := 33) ho dX8_all_7 (by decide) (by unfold rng; rw [hx] at hl9; simp at hl9; omega) (by rw [hs']; unfold rng; omega) (fun c7 => ?_) (fun c7 => ?_)
      · 
        refine r_V ho dX8_all_33 (Nat.le_of_ble_eq_true rfl) (Nat.le_of_ble_eq_true rfl) ?_
        exact ⟨by rw [hx]; simpa using hg, hfp, hFr, hz⟩
      · rw [hs', hx] at c7; simp at c7
    | cons x B ih =>
      intro A v hx hg hfp hFr hz hR
      have sm : ∀ a ∈ fpF u f, Sm u v a := fun a ha => (hFr.2 a (hFl a ha)).2.2 (hd a ha)
      have sf := sm f (by unfold fpF; simp)
      have s1 := sm (rv_ u f 1) (by unfold fpF; simp)
      have s2 := sm (rv_ u f 2) (by unfold fpF; simp)
      obtain ⟨kf, ka, kb, la, lb, hs, hle, hsr, harr⟩ := hF
      have e1 : rv_ v f 1 = rv_ u f 1 := sf.2.2.2 1
      have e2 : rv_ v f 2 = rv_ u f 2 := sf.2.2.2 2
      have kf' : kd_ v f = 8 := by rw [sf.1]; exact kf
      have hlen : xs.length = A.length + B.length + 1 := by rw [hx]; simp; omega
      rw [hx] at harr
      have hx1 := (Arr.cons.mp (Arr.app.mp harr).2).1
      rw [Nat.zero_add] at hx1
      have hxr := hsr.2 x (by rw [hx]; simp)
      have hkx : kd_ v x.2 = 6 := by
        have := htk x (by rw [hx]; simp)
        rw [(hFr.2 x.2 (hw.1 x.2 (by omega)).1).1]; exact this
      have hAx : ∀ y ∈ A, y.1 < x.1 := (hsr.before hx).1
      have hin : ins x.1 x.2 A = A ++ [x] := by
        have := ins_split (b := x.1) (t := x.2) (A := A) (B := []) hAx (fun y h => by simp at h)
        rw [List.append_nil] at this
        exact this
      have hz1 : iv_ v f 0 = xs.length := by rw [sf.2.2.1]; exact hs
      refine z_iload_n ho dX8_all_2 rfl ?_
      refine z_aload_n ho dX8_all_3 rfl ?_
      refine gX8_21 ho dX8_all_4 kf' ?_
      refine z_icmp_ge (tgt := 33) ho dX8_all_7 (by decide) (by unfold rng; omega) (by rw [hz1]; unfold rng; omega) (fun c7 => ?_) (fun c7 => ?_)
      · rw [hz1] at c7; omega
      · have htkA : Tk v A := fun y hy => by
          have := htk y (by rw [hx]; simp [hy])
          rw [(hFr.2 y.2 (hw.1 y.2 (by omega)).1).1]; exact this
        refine z_aload_n ho dX8_all_10 rfl ?_
        refine z_aload_n ho dX8_all_11 rfl ?_
        refine gX8_9 ho dX8_all_12 kf' ?_
        rw [e1]
        refine z_iload_n ho dX8_all_15 rfl ?_
        refine z_iald ho dX8_all_16 (by rw [s1.1]; exact ka) (by omega) (by rw [s1.2.1]; omega) ?_
        rw [s1.2.2.1, hx1.1]
        refine z_aload_n ho dX8_all_17 rfl ?_
        refine gX8_17 ho dX8_all_18 kf' ?_
        rw [e2]
        refine z_iload_n ho dX8_all_21 rfl ?_
        refine z_aald ho dX8_all_22 (by decide) (show kd_ v (rv_ u f 2) = 105 by rw [s2.1]; exact kb) (by omega) (by rw [s2.2.1]; omega) ?_
        rw [s2.2.2.2, hx1.2]
        have fin : ∀ (r : Nat) (v' : Mem), (r = g ∧ Fn v' g (ins x.1 x.2 A) ∧ rv_ v' g 1 = rv_ v g 1 ∧ rv_ v' g 2 = rv_ v g 2 ∧ Fr (fun a _ => a ∈ fpF v g) v v' ∧ sz_ v' = sz_ v) → Z X 26 [some (aR f), some (aR g), some (aI (A.length : Int))] [aR r] v' 0 0 := by
          rintro r v' ⟨-, p1, p2, p3, p4, p5⟩
          refine z_pop ho dX8_all_26 rfl ?_
          refine z_iinc ho dX8_all_27 rfl rfl ?_
          refine z_goto (tgt := 2) ho dX8_all_30 (by decide) ?_
          rw [hin] at p1
          have hfp' : fpF v' g = fpF v g := by unfold fpF; rw [p2, p3]
          have hFr2 : Fr (fun a _ => a ∈ fpF u g) v v' := p4.mono (fun a _ q => by rw [← hfp]; exact q)
          have := ih (A ++ [x]) v' (by rw [hx]; simp) p1 (hfp'.trans hfp) (hFr.tr hFr2) (by omega) (by
            have hgl : ∀ a ∈ fpF v g, a < sz_ v := fun a ha => by
              have := hg.kinds a ha
              rw [hz]
              rcases Nat.lt_or_ge a (sz_ u) with q | q
              · exact q
              · have := (hw.1 a (by
                  rw [hfp] at ha
                  have := hG.kinds a ha
                  omega)).1
                omega
            have q1 := p4.2 g (hgl g (by unfold fpF; simp))
            have q2 := p4.2 (rv_ v g 1) (hgl _ (by unfold fpF; simp))
            unfold Roomy at hR ⊢
            rw [q1.1, p2, q2.2.1]; exact hR)
          rw [List.length_append] at this
          exact this
        rcases hg.kd with ⟨h8, k8⟩ | ⟨h16, k16⟩
        · have hr8 : (A.length : Int) < ln_ v (rv_ v g 1) := by
            rcases hR with q | q
            · omega
            · omega
          refine kX8_25_8 ho hN (c_F8_put_room _ _ h8 (fun y hy => by have := hAx y hy; omega) hxr.1 hxr.2.1 hkx htkA hr8) dX8_all_23 k8 (Nat.le_of_ble_eq_true rfl) (Nat.le_of_ble_eq_true rfl) (Nat.le_of_ble_eq_true rfl) (Nat.le_of_ble_eq_true rfl) (fun x23 u23 h23 => ?_)
          obtain ⟨p0, p1, p2⟩ := h23
          exact fin _ _ ⟨p0, Or.inl p1, p2⟩
        · have hr16 : A.length < 48 := by
            rcases hR with q | q
            · omega
            · omega
          refine kX8_25_16 ho hN (c_F16_put _ _ h16 (fun y hy => by have := hAx y hy; omega) hxr.1 hxr.2.1 hkx hr16) dX8_all_23 k16 (Nat.le_of_ble_eq_true rfl) (Nat.le_of_ble_eq_true rfl) (Nat.le_of_ble_eq_true rfl) (Nat.le_of_ble_eq_true rfl) (fun x23 u23 h23 => ?_)
          obtain ⟨p0, p1, p2⟩ := h23
          exact fin _ _ ⟨p0, Or.inr p1, p2⟩
  exact key xs [] u rfl hG rfl (Fr.rf _ u) rfl hroom
