set_option maxRecDepth 100000
/-! ===== the law: the case locate ===== -/
theorem k_locate {X : Ctx_} {ret : Option FieldType} {d mc ms : Nat} {Q : Option AV → Mem → Prop} (ho : Ok_ X "KeyHallLaw" cL_law ret d mc ms Q) (hN : Nl_ X 7) {b L : Nat} {xs : Nat → Int32} (hs : Sx_ X b L xs) (hst : (La_ X).stackTraces = false) {u : Mem} {x N : Nat} {i : Int} {cu su : Nat} (h : LJ u x N) (hN1 : N + 1 ≤ 64) (h0 : 0 ≤ i) (h1 : i + 4 ≤ L) (hd : 2000 ≤ d) (hcu : cu + 2372 ≤ mc) (hsu : su + 14199 ≤ ms) (nx : ∀ u', LJ u' x (N + 1) → Z X 1297 [some (aR (b + 1)), some (aR x), some (aR (x + 34)), some (aR (x + 63)), some (aI i), none, none] [] u' (cu + 2372) (su + 14199)) : Z X 1272 [some (aR (b + 1)), some (aR x), some (aR (x + 34)), some (aR (x + 63)), some (aI i), none, none] [] u cu su := by
  obtain ⟨tp, fd, M, ch, VL, Ks, T, Os, hH, hM, hO, hB⟩ := h
  have ra := rg_i32 (xs (i + 1).toNat)
  have hkx := hH.kx
  refine z_aload_n ho dL_law_1272 rfl ?_
  refine z_aload_n ho dL_law_1273 rfl ?_
  refine z_iload ho dL_law_1274 rfl ?_
  refine z_iconst ho dL_law_1276 ?_
  refine z_iadd ho dL_law_1277 ?_
  refine z_sld ho hs dL_law_1278 (by omega) (by omega) ?_
  refine kX0_153 ho hN (c_locate _ _ hH ra) dL_law_1279 (by assumption) (by omega) (Nat.le_of_ble_eq_true rfl) (by omega) (by omega) (fun x1279 u1279 h1279 => ?_)
  obtain ⟨q1, q3⟩ := h1279
  refine z_wf (fun hw2 => ?_)
  have hM2 := hM.mr q1
  have hO2 := hO.mr q1
  rcases q3 with ⟨a1, a2, a3⟩ | ⟨a0, a1, a3, f, n, a4, a5⟩
  · 
    refine z_aload_n ho dL_law_1282 rfl ?_
    refine z_aload_n ho dL_law_1283 rfl ?_
    refine z_iload ho dL_law_1284 rfl ?_
    refine z_iconst ho dL_law_1286 ?_
    refine z_iadd ho dL_law_1287 ?_
    refine z_sld ho hs dL_law_1288 (by omega) (by omega) ?_
    refine kX0_156 ho hN (c_mlocate0 _ _ hM2 ra a1) dL_law_1289 hM2.1.1 (by omega) (Nat.le_of_ble_eq_true rfl) (by omega) (by omega) (fun x1289 u1289 h1289 => ?_)
    obtain ⟨g2, g3⟩ := h1289
    refine z_same (tgt := 1297) ho dL_law_1292 (by decide) (by rw [a2, g3]) ?_
    exact z_cu (by omega) (by omega) (nx _ (LJ.of hw2 a3 hO2 g2 hN1 (hB.up hN1)))
  · 
    refine z_aload_n ho dL_law_1282 rfl ?_
    refine z_aload_n ho dL_law_1283 rfl ?_
    refine z_iload ho dL_law_1284 rfl ?_
    refine z_iconst ho dL_law_1286 ?_
    refine z_iadd ho dL_law_1287 ?_
    refine z_sld ho hs dL_law_1288 (by omega) (by omega) ?_
    refine kX0_156 ho hN (c_mlocate _ _ hM2 (by omega) a4) dL_law_1289 hM2.1.1 (by omega) (Nat.le_of_ble_eq_true rfl) (by omega) (by omega) (fun x1289 u1289 h1289 => ?_)
    obtain ⟨g2, g3⟩ := h1289
    refine z_same (tgt := 1297) ho dL_law_1292 (by decide) (by rw [a5, g3]) ?_
    exact z_cu (by omega) (by omega) (nx _ (LJ.of hw2 a3 hO2 g2 hN1 (hB.clear hN1)))
