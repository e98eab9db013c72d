set_option maxRecDepth 100000
/-! ===== the law: the cases undo, letter ===== -/
theorem k_letter {X : Ctx_} {ret : Option FieldType} {d mc ms : Nat} {Q : Option AV → Mem → Prop} (ho : Ok_ X "KeyHallLaw" cL_law ret d mc ms Q) (hN : Nl_ X 7) {b L : Nat} {xs : Nat → Int32} (hs : Sx_ X b L xs) (hst : (La_ X).stackTraces = false) {u : Mem} {x N : Nat} {i : Int} {cu su : Nat} (h : LJ u x N) (hN1 : N + 1 ≤ 64) (h0 : 0 ≤ i) (h1 : i + 4 ≤ L) (hd : 2000 ≤ d) (hcu : cu + 2372 ≤ mc) (hsu : su + 14199 ≤ ms) (nx : ∀ u', LJ u' x (N + 1) → Z X 1297 [some (aR (b + 1)), some (aR x), some (aR (x + 34)), some (aR (x + 63)), some (aI i), none, none] [] u' (cu + 2372) (su + 14199)) : Z X 1210 [some (aR (b + 1)), some (aR x), some (aR (x + 34)), some (aR (x + 63)), some (aI i), none, none] [] u cu su := by
  obtain ⟨tp, fd, M, ch, VL, Ks, T, Os, hH, hM, hO, hB⟩ := h
  have ra := rg_i32 (xs (i + 1).toNat)
  have hkx := hH.kx
  refine z_wf (fun hw2 => ?_)
  refine z_aload_n ho dL_law_1210 rfl ?_
  refine z_aload_n ho dL_law_1211 rfl ?_
  refine z_iload ho dL_law_1212 rfl ?_
  refine z_iconst ho dL_law_1214 ?_
  refine z_iadd ho dL_law_1215 ?_
  refine z_sld ho hs dL_law_1216 (by omega) (by omega) ?_
  refine kX0_145 ho hN (c_letter _ _ hH ra) dL_law_1217 (by assumption) (by omega) (Nat.le_of_ble_eq_true rfl) (by omega) (by omega) (fun x1217 u1217 h1217 => ?_)
  obtain ⟨rfl, q3⟩ := h1217
  refine z_aload_n ho dL_law_1220 rfl ?_
  refine z_aload_n ho dL_law_1221 rfl ?_
  refine z_iload ho dL_law_1222 rfl ?_
  refine z_iconst ho dL_law_1224 ?_
  refine z_iadd ho dL_law_1225 ?_
  refine z_sld ho hs dL_law_1226 (by omega) (by omega) ?_
  refine kX0_148 ho hN (c_mletter _ _ hM ra) dL_law_1227 hM.1.1 (by omega) (Nat.le_of_ble_eq_true rfl) (by omega) (by omega) (fun x1227 u1227 h1227 => ?_)
  obtain ⟨g2, g3⟩ := h1227
  refine z_same (tgt := 1297) ho dL_law_1230 (by decide) (by rw [q3, g3]) ?_
  exact z_cu (by omega) (by omega) (nx _ (LJ.of hw2 hH hO g2 hN1 (hB.up hN1)))
theorem k_undo {X : Ctx_} {ret : Option FieldType} {d mc ms : Nat} {Q : Option AV → Mem → Prop} (ho : Ok_ X "KeyHallLaw" cL_law ret d mc ms Q) (hN : Nl_ X 7) {b L : Nat} {xs : Nat → Int32} (hs : Sx_ X b L xs) (hst : (La_ X).stackTraces = false) {u : Mem} {x N : Nat} {i : Int} {cu su : Nat} (h : LJ u x N) (hN1 : N + 1 ≤ 64) (h0 : 0 ≤ i) (h1 : i + 4 ≤ L) (hd : 2000 ≤ d) (hcu : cu + 2372 ≤ mc) (hsu : su + 14199 ≤ ms) (nx : ∀ u', LJ u' x (N + 1) → Z X 1297 [some (aR (b + 1)), some (aR x), some (aR (x + 34)), some (aR (x + 63)), some (aI i), none, none] [] u' (cu + 2372) (su + 14199)) : Z X 1197 [some (aR (b + 1)), some (aR x), some (aR (x + 34)), some (aR (x + 63)), some (aI i), none, none] [] u cu su := by
  obtain ⟨tp, fd, M, ch, VL, Ks, T, Os, hH, hM, hO, hB⟩ := h
  have hkx := hH.kx
  refine z_aload_n ho dL_law_1197 rfl ?_
  refine kX0_141 ho hN (c_undo _ _ hH) dL_law_1198 (by assumption) (by omega) (Nat.le_of_ble_eq_true rfl) (by omega) (by omega) (fun x1198 u1198 h1198 => ?_)
  obtain ⟨q1, q3⟩ := h1198
  refine z_wf (fun hw2 => ?_)
  have hM2 := hM.mr q1
  have hO2 := hO.mr q1
  refine z_aload_n ho dL_law_1201 rfl ?_
  refine kX0_144 ho hN (c_mundo _ _ hM2) dL_law_1202 hM2.1.1 (by omega) (Nat.le_of_ble_eq_true rfl) (by omega) (by omega) (fun x1202 u1202 h1202 => ?_)
  rcases q3 with ⟨a1, a2, a3⟩ | ⟨Ps, R, a1, a2, a3⟩
  · rcases h1202 with ⟨b1, b2, g2⟩ | ⟨Ps', R', b1, b2, g2⟩
    · refine z_same (tgt := 1297) ho dL_law_1205 (by decide) (by rw [a2, b2]) ?_
      exact z_cu (by omega) (by omega) (nx _ (LJ.of hw2 a3 hO2 g2 hN1 (hB.up hN1)))
    · rw [a1] at b1
      simp at b1
  · rcases h1202 with ⟨b1, b2, g2⟩ | ⟨Ps', R', b1, b2, g2⟩
    · rw [a1] at b1
      simp at b1
    · rw [a1] at b1
      have e := List.append_inj' b1 rfl
      have e1 := e.1
      have e2 : R = R' := by simpa using e.2
      subst e1
      subst e2
      refine z_same (tgt := 1297) ho dL_law_1205 (by decide) (by rw [a2, b2]) ?_
      exact z_cu (by omega) (by omega) (nx _ (LJ.of hw2 a3 hO2 g2 hN1 (hB.up hN1)))
