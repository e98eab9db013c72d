set_option maxRecDepth 100000
/-! ===== the law: the cases size, found, iterate ===== -/
theorem k_size {X : Ctx_} {ret : Option FieldType} {d mc ms : Nat} {Q : Option AV → Mem → Prop} (ho : Ok_ X "KeyHallLaw" cL_law ret d mc ms Q) (hN : Nl_ X 7) {b L : Nat} {xs : Nat → Int32} (hs : Sx_ X b L xs) (hst : (La_ X).stackTraces = false) {u : Mem} {x N : Nat} {i : Int} {cu su : Nat} (h : LJ u x N) (hN1 : N + 1 ≤ 64) (h0 : 0 ≤ i) (h1 : i + 4 ≤ L) (hd : 2000 ≤ d) (hcu : cu + 2372 ≤ mc) (hsu : su + 14199 ≤ ms) (nx : ∀ u', LJ u' x (N + 1) → Z X 1297 [some (aR (b + 1)), some (aR x), some (aR (x + 34)), some (aR (x + 63)), some (aI i), none, none] [] u' (cu + 2372) (su + 14199)) : Z X 461 [some (aR (b + 1)), some (aR x), some (aR (x + 34)), some (aR (x + 63)), some (aI i), none, none] [] u cu su := by
  obtain ⟨tp, fd, M, ch, VL, Ks, T, Os, hH, hM, hO, hB⟩ := h
  have ra := rg_i32 (xs (i + 1).toNat)
  have hkx := hH.kx
  refine z_wf (fun hw2 => ?_)
  refine z_aload_n ho dL_law_461 rfl ?_
  refine z_aload_n ho dL_law_462 rfl ?_
  refine z_iload ho dL_law_463 rfl ?_
  refine z_iconst ho dL_law_465 ?_
  refine z_iadd ho dL_law_466 ?_
  refine z_sld ho hs dL_law_467 (by omega) (by omega) ?_
  refine kX0_93 ho hN (c_hsize _ _ hH ra) dL_law_468 (by assumption) (by omega) (Nat.le_of_ble_eq_true rfl) (by omega) (by omega) (fun x468 u468 h468 => ?_)
  obtain ⟨rfl, q3⟩ := h468
  refine z_aload_n ho dL_law_471 rfl ?_
  refine z_aload_n ho dL_law_472 rfl ?_
  refine z_iload ho dL_law_473 rfl ?_
  refine z_iconst ho dL_law_475 ?_
  refine z_iadd ho dL_law_476 ?_
  refine z_sld ho hs dL_law_477 (by omega) (by omega) ?_
  refine kX0_96 ho hN (c_msize _ _ hM ra) dL_law_478 hM.1.1 (by omega) (Nat.le_of_ble_eq_true rfl) (by omega) (by omega) (fun x478 u478 h478 => ?_)
  obtain ⟨-, g2, g3⟩ := h478
  have eb : x468 = x478 := by
    rcases q3 with ⟨a1, a2⟩ | ⟨vs, a1, a2, a3⟩
    · rcases g3 with ⟨b1, b2⟩ | ⟨vs', b1, b2, b3⟩
      · rw [a2, b2]
      · exact absurd ⟨b1, by have := (List.getElem?_eq_some_iff.mp b2).1; omega⟩ a1
    · rcases g3 with ⟨b1, b2⟩ | ⟨vs', b1, b2, b3⟩
      · exact absurd ⟨a1, by have := (List.getElem?_eq_some_iff.mp a2).1; omega⟩ b1
      · rw [a2] at b2
        cases b2
        rw [a3, b3]
  refine z_same (tgt := 1297) ho dL_law_481 (by decide) eb ?_
  exact z_cu (by omega) (by omega) (nx _ (LJ.of hw2 hH hO g2 hN1 (hB.up hN1)))
theorem k_found {X : Ctx_} {ret : Option FieldType} {d mc ms : Nat} {Q : Option AV → Mem → Prop} (ho : Ok_ X "KeyHallLaw" cL_law ret d mc ms Q) (hN : Nl_ X 7) {b L : Nat} {xs : Nat → Int32} (hs : Sx_ X b L xs) (hst : (La_ X).stackTraces = false) {u : Mem} {x N : Nat} {i : Int} {cu su : Nat} (h : LJ u x N) (hN1 : N + 1 ≤ 64) (h0 : 0 ≤ i) (h1 : i + 4 ≤ L) (hd : 2000 ≤ d) (hcu : cu + 2372 ≤ mc) (hsu : su + 14199 ≤ ms) (nx : ∀ u', LJ u' x (N + 1) → Z X 1297 [some (aR (b + 1)), some (aR x), some (aR (x + 34)), some (aR (x + 63)), some (aI i), none, none] [] u' (cu + 2372) (su + 14199)) : Z X 706 [some (aR (b + 1)), some (aR x), some (aR (x + 34)), some (aR (x + 63)), some (aI i), none, none] [] u cu su := by
  obtain ⟨tp, fd, M, ch, VL, Ks, T, Os, hH, hM, hO, hB⟩ := h
  have ra := rg_i32 (xs (i + 1).toNat)
  have hkx := hH.kx
  refine z_wf (fun hw2 => ?_)
  refine z_aload_n ho dL_law_706 rfl ?_
  refine z_aload_n ho dL_law_707 rfl ?_
  refine z_iload ho dL_law_708 rfl ?_
  refine z_iconst ho dL_law_710 ?_
  refine z_iadd ho dL_law_711 ?_
  refine z_sld ho hs dL_law_712 (by omega) (by omega) ?_
  refine kX0_107 ho hN (c_found _ _ hH ra) dL_law_713 (by assumption) (by omega) (Nat.le_of_ble_eq_true rfl) (by omega) (by omega) (fun x713 u713 h713 => ?_)
  obtain ⟨rfl, q3⟩ := h713
  refine z_aload_n ho dL_law_716 rfl ?_
  refine z_aload_n ho dL_law_717 rfl ?_
  refine z_iload ho dL_law_718 rfl ?_
  refine z_iconst ho dL_law_720 ?_
  refine z_iadd ho dL_law_721 ?_
  refine z_sld ho hs dL_law_722 (by omega) (by omega) ?_
  refine kX0_110 ho hN (c_mfound _ _ hM ra) dL_law_723 hM.1.1 (by omega) (Nat.le_of_ble_eq_true rfl) (by omega) (by omega) (fun x723 u723 h723 => ?_)
  obtain ⟨g2, g3⟩ := h723
  refine z_same (tgt := 1297) ho dL_law_726 (by decide) (by rw [q3, g3]) ?_
  exact z_cu (by omega) (by omega) (nx _ (LJ.of hw2 hH hO g2 hN1 (hB.up hN1)))
theorem k_iterate {X : Ctx_} {ret : Option FieldType} {d mc ms : Nat} {Q : Option AV → Mem → Prop} (ho : Ok_ X "KeyHallLaw" cL_law ret d mc ms Q) (hN : Nl_ X 7) {b L : Nat} {xs : Nat → Int32} (hs : Sx_ X b L xs) (hst : (La_ X).stackTraces = false) {u : Mem} {x N : Nat} {i : Int} {cu su : Nat} (h : LJ u x N) (hN1 : N + 1 ≤ 64) (h0 : 0 ≤ i) (h1 : i + 4 ≤ L) (hd : 2000 ≤ d) (hcu : cu + 2372 ≤ mc) (hsu : su + 14199 ≤ ms) (nx : ∀ u', LJ u' x (N + 1) → Z X 1297 [some (aR (b + 1)), some (aR x), some (aR (x + 34)), some (aR (x + 63)), some (aI i), none, none] [] u' (cu + 2372) (su + 14199)) : Z X 731 [some (aR (b + 1)), some (aR x), some (aR (x + 34)), some (aR (x + 63)), some (aI i), none, none] [] u cu su := by
  obtain ⟨tp, fd, M, ch, VL, Ks, T, Os, hH, hM, hO, hB⟩ := h
  have ra := rg_i32 (xs (i + 1).toNat)
  have hkx := hH.kx
  refine z_aload_n ho dL_law_731 rfl ?_
  refine z_aload_n ho dL_law_732 rfl ?_
  refine z_iload ho dL_law_733 rfl ?_
  refine z_iconst ho dL_law_735 ?_
  refine z_iadd ho dL_law_736 ?_
  refine z_sld ho hs dL_law_737 (by omega) (by omega) ?_
  refine kX0_111 ho hN (c_hiterate _ _ hH ra) dL_law_738 (by assumption) (by omega) (Nat.le_of_ble_eq_true rfl) (by omega) (by omega) (fun x738 u738 h738 => ?_)
  obtain ⟨q1, q3⟩ := h738
  refine z_wf (fun hw2 => ?_)
  have hM2 := hM.mr q1
  have hO2 := hO.mr q1
  refine z_aload_n ho dL_law_741 rfl ?_
  refine z_aload_n ho dL_law_742 rfl ?_
  refine z_iload ho dL_law_743 rfl ?_
  refine z_iconst ho dL_law_745 ?_
  refine z_iadd ho dL_law_746 ?_
  refine z_sld ho hs dL_law_747 (by omega) (by omega) ?_
  refine kX0_115 ho hN (c_miterate _ _ hM2 ra) dL_law_748 hM2.1.1 (by omega) (Nat.le_of_ble_eq_true rfl) (by omega) (by omega) (fun x748 u748 h748 => ?_)
  rcases q3 with ⟨a1, a2, a3⟩ | ⟨vs, a1, a2, a3, a4⟩
  · rcases h748 with ⟨b1, b2, g2⟩ | ⟨vs', b1, b2, b3, g2⟩
    · refine z_same (tgt := 1297) ho dL_law_751 (by decide) (by rw [a2, b2]) ?_
      exact z_cu (by omega) (by omega) (nx _ (LJ.of hw2 a3 hO2 g2 hN1 (hB.up hN1)))
    · exact absurd ⟨b1, by have := (List.getElem?_eq_some_iff.mp b2).1; omega⟩ a1
  · rcases h748 with ⟨b1, b2, g2⟩ | ⟨vs', b1, b2, b3, g2⟩
    · exact absurd ⟨a1, by have := (List.getElem?_eq_some_iff.mp a2).1; omega⟩ b1
    · rw [a2] at b2
      cases b2
      refine z_same (tgt := 1297) ho dL_law_751 (by decide) (by rw [a3, b3]) ?_
      exact z_cu (by omega) (by omega) (nx _ (LJ.of hw2 a4 hO2 g2 hN1 ⟨hN1, (hB.up hN1).2.1, by rw [List.length_set]; exact hB.2.2⟩))
