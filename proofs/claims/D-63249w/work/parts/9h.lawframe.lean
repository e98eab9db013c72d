set_option maxRecDepth 100000
/-! ===== the law: what stays ===== -/
/-- only ints of the model and of the law's array change -/
def Mo (x : Nat) (u v : Mem) : Prop := sz_ v = sz_ u ∧ (∀ a, kd_ v a = kd_ u a ∧ ln_ v a = ln_ u a) ∧ (∀ a i, rv_ v a i = rv_ u a i) ∧ ∀ a, (a < x + 34 ∨ x + 64 ≤ a) → ∀ i, iv_ v a i = iv_ u a i
theorem Im.mo {x : Nat} {u v : Mem} (h : Im (x + 34) u v) : Mo x u v := ⟨h.1, h.2.1, h.2.2.1, fun a ha i => h.2.2.2 a (by omega) i⟩
theorem Mo.out {x : Nat} {u : Mem} (i y : Int) : Mo x u (wI_ u (x + 63) i y) := ⟨rfl, fun _ => ⟨rfl, rfl⟩, fun _ _ => rfl, fun a ha k => by rw [iv_wI, if_neg (by omega)]⟩
theorem HS.mod {u v : Mem} {x : Nat} {tp fd : List Int} {M : Nat → List KV} {ch : Nat → Int} {VL : List VS} {Ks : List (List Int)} {T : List Int} {Os : List (List Int)} (h : HS u x tp fd M ch VL Ks T Os) (hw : Wf u) (g : Mo x u v) : HS v x tp fd M ch VL Ks T Os := by
  obtain ⟨g1, g2, g3, g4⟩ := g
  obtain ⟨⟨a1, a2, a3⟩, hF, t1, f1, ⟨h0, d1⟩, ⟨S, hT, hV⟩, hA, hX⟩ := h
  have hs : ∀ a, (a < x + 34 ∨ x + 64 ≤ a) → Sm u v a := fun a ha => ⟨(g2 a).1, (g2 a).2, fun i => g4 a ha i, fun i => g3 a i⟩
  have sk : ∀ a, (kd_ u a = 2 ∨ kd_ u a = 14 ∨ kd_ u a = 15 ∨ kd_ u a = 17 ∨ kd_ u a = 11 ∨ kd_ u a = 18 ∨ kd_ u a = 101) → Sm u v a := fun a ha => hs a (by
    apply Classical.byContradiction
    intro z
    have := a3 a (by omega) (by omega)
    omega)
  have hK : Kp_ x u v := ⟨by omega, fun a _ => g2 a, fun a _ ha _ => hs a (Or.inr ha)⟩
  have sx : ∀ a, a < x + 34 → Sm u v a := fun a ha => hs a (Or.inl ha)
  refine ⟨⟨by omega, a2, fun a q1 q2 => by rw [(g2 a).1]; exact a3 a q1 q2⟩, hF.same (sx x (by omega)) (g2 _), t1.same (sx _ (by omega)) (sx _ (by omega)), f1.same (sx _ (by omega)) (sx _ (by omega)), ⟨h0, d1.same (sx _ (by omega)) (sx _ (by omega))⟩, ⟨S, hT.same hw hK (fun i hi => ?_) (fun i a hi ha hsc => ?_), hV.same hw hK (sx _ (by omega)) (fun a ha hk => sk a (by omega)) (fun _ => Int.le_refl _) (fun vs _ a _ _ z => ⟨z, fun y => y⟩)⟩, hA.same (fun a q1 q2 => sx a (by omega)), hX.same hw hK (fun a ha hk => sk a (by omega)) (fun a q1 q2 => sx a (by omega))⟩
  · have := tA_3 x i
    have s := sx (tA x i) (by omega)
    exact ⟨s.2.2.2, s.2.2.1 0, s.2.2.1 1⟩
  · rcases hsc with ⟨-, z⟩ | ⟨-, -, z⟩ | ⟨-, z⟩
    · exact sk a (by omega)
    · exact hs a (by unfold hG at z; omega)
    · exact sk a (by omega)
theorem MF.fr {u v : Mem} {m : Nat} (h : MF u m) (g : ∀ j, j < 29 → Sm u v (m + j)) : MF v m := by
  have k0 : kd_ v m = kd_ u m := (g 0 (by omega)).1
  have r0 : ∀ i, rv_ v m i = rv_ u m i := (g 0 (by omega)).2.2.2
  have kj : ∀ j, j < 29 → kd_ v (m + j) = kd_ u (m + j) := fun j hj => (g j hj).1
  have lj : ∀ j, j < 29 → ln_ v (m + j) = ln_ u (m + j) := fun j hj => (g j hj).2.1
  unfold MF at h ⊢
  simp only [k0, r0, kj, lj, Nat.reduceLT]
  exact h
theorem MS.fr {u v : Mem} {m N : Nat} {tp fd : List Int} {M : Nat → List KV} {ch : Nat → Int} {VL : List VS} {Ks : List (List Int)} {T : List Int} {Os : List (List Int)} (h : MS u m N tp fd M ch VL Ks T Os) (g : ∀ j, j < 29 → Sm u v (m + j)) : MS v m N tp fd M ch VL Ks T Os := by
  have e0 : iv_ v m = iv_ u m := funext (g 0 (by omega)).2.2.1
  have e : ∀ j, j < 29 → iv_ v (m + j) = iv_ u (m + j) := fun j hj => funext (g j hj).2.2.1
  obtain ⟨h1, h2, h3, h4, h5, h6, h7, h8, h9⟩ := h
  refine ⟨h1.fr g, ?_, ?_, ?_, ?_, ?_, ?_, ?_, h9⟩
  · unfold MTp; rw [e0, e 1 (by omega)]; exact h2
  · unfold MFd; rw [e0, e 17 (by omega)]; exact h3
  · unfold MM; rw [e 4 (by omega), e 5 (by omega), e 6 (by omega), e 2 (by omega), e 3 (by omega)]; exact h4
  · unfold MV; rw [e0, e 7 (by omega), e 8 (by omega), e 9 (by omega), e 10 (by omega)]; exact h5
  · unfold MIt; rw [e 11 (by omega), e 12 (by omega), e 13 (by omega), e 14 (by omega), e 15 (by omega), e 16 (by omega)]; exact h6
  · unfold MAt; rw [e0, e 22 (by omega), e 23 (by omega), e 24 (by omega), e 25 (by omega)]; exact h7
  · unfold MTt; rw [e0, e 26 (by omega), e 27 (by omega), e 28 (by omega)]; exact h8
theorem MS.mr {u v : Mem} {x N : Nat} {tp fd : List Int} {M : Nat → List KV} {ch : Nat → Int} {VL : List VS} {Ks : List (List Int)} {T : List Int} {Os : List (List Int)} (h : MS u (x + 34) N tp fd M ch VL Ks T Os) (g : MR x u v) : MS v (x + 34) N tp fd M ch VL Ks T Os := h.fr (fun j hj => g.2 _ (by omega) (by omega))
/-- a larger bound of the edits -/
theorem MS.le {u : Mem} {m N N' : Nat} {tp fd : List Int} {M : Nat → List KV} {ch : Nat → Int} {VL : List VS} {Ks : List (List Int)} {T : List Int} {Os : List (List Int)} (h : MS u m N tp fd M ch VL Ks T Os) (h1 : N ≤ N') (h2 : N' ≤ 1000) : MS u m N' tp fd M ch VL Ks T Os := by
  obtain ⟨q1, q2, q3, q4, q5, q6, q7, ⟨t1, ⟨s1, s2, s3, s4, s5⟩, t3⟩, q9⟩ := h
  exact ⟨q1, q2, q3, q4, q5, q6, q7, ⟨t1, ⟨s1, s2, s3, by omega, h2⟩, t3⟩, q9⟩
