set_option maxRecDepth 100000
/-! ===== the law: the case match ===== -/
theorem k_match {X : Ctx_} {ret : Option FieldType} {d mc ms : Nat} {Q : Option AV → Mem → Prop} (ho : Ok_ X "KeyHallLaw" cL_law ret d mc ms Q) (hN : Nl_ X 7) {b L : Nat} {xs : Nat → Int32} (hs : Sx_ X b L xs) (hst : (La_ X).stackTraces = false) {u : Mem} {x N : Nat} {i : Int} {cu su : Nat} (h : LJ u x N) (hN1 : N + 1 ≤ 64) (h0 : 0 ≤ i) (h1 : i + 4 ≤ L) (hd : 2000 ≤ d) (hcu : cu + 2372 ≤ mc) (hsu : su + 14199 ≤ ms) (nx : ∀ u', LJ u' x (N + 1) → Z X 1297 [some (aR (b + 1)), some (aR x), some (aR (x + 34)), some (aR (x + 63)), some (aI i), none, none] [] u' (cu + 2372) (su + 14199)) : Z X 868 [some (aR (b + 1)), some (aR x), some (aR (x + 34)), some (aR (x + 63)), some (aI i), none, none] [] u cu su := by
  obtain ⟨tp, fd, M, ch, VL, Ks, T, Os, hH, hM, hO, hB⟩ := h
  have ra := rg_i32 (xs (i + 1).toNat)
  have rb := rg_i32 (xs (i + 2).toNat)
  have hkx := hH.kx
  by_cases hv : 0 ≤ (xs (i + 1).toNat).toInt ∧ (xs (i + 1).toNat).toInt < VL.length
  · have hvs : VL[(xs (i + 1).toNat).toInt.toNat]? = some VL[(xs (i + 1).toNat).toInt.toNat] := List.getElem?_eq_getElem (by omega)
    generalize VL[(xs (i + 1).toNat).toInt.toNat] = vs at hvs
    by_cases hn : 0 ≤ (xs (i + 2).toNat).toInt
    · 
      refine z_aload_n ho dL_law_868 rfl ?_
      refine z_aload_n ho dL_law_869 rfl ?_
      refine z_iload ho dL_law_870 rfl ?_
      refine z_iconst ho dL_law_872 ?_
      refine z_iadd ho dL_law_873 ?_
      refine z_sld ho hs dL_law_874 (by omega) (by omega) ?_
      refine z_aload_n ho dL_law_875 rfl ?_
      refine z_iload ho dL_law_876 rfl ?_
      refine z_iconst ho dL_law_878 ?_
      refine z_iadd ho dL_law_879 ?_
      refine z_sld ho hs dL_law_880 (by omega) (by omega) ?_
      refine z_aload_n ho dL_law_881 rfl ?_
      refine wX0_122 ho hN (w_match _ _ (c_hmatch _ _ hH hv.1 hvs hn rb) hkx (fun r v q => hO.mr q.1)) dL_law_882 (by omega) (Nat.le_of_ble_eq_true rfl) (by omega) (by omega) (fun x882 u882 h882 => ?_)
      obtain ⟨rfl, y, w, ⟨q1, q2, q3⟩, rfl⟩ := h882
      refine z_wf (fun hw2 => ?_)
      have hH2 := HS.mod q2 hw2 (Mo.out 0 (Int32.ofInt y).toInt)
      have hM2 := (hM.mr q1).out (i := 0) (y := (Int32.ofInt y).toInt)
      have hO2 := (hO.mr q1).mo (Mo.out 0 (Int32.ofInt y).toInt)
      have e63 : iv_ (wI_ w (x + 63) 0 (Int32.ofInt y).toInt) (x + 63) 0 = (Int32.ofInt y).toInt := by rw [iv_wI, if_pos ⟨rfl, rfl⟩]
      generalize wI_ w (x + 63) 0 (Int32.ofInt y).toInt = v at *
      refine z_istore ho dL_law_885 (Nat.le_of_ble_eq_true rfl) rfl ?_
      refine z_aload_n ho dL_law_887 rfl ?_
      refine z_aload_n ho dL_law_888 rfl ?_
      refine z_iload ho dL_law_889 rfl ?_
      refine z_iconst ho dL_law_891 ?_
      refine z_iadd ho dL_law_892 ?_
      refine z_sld ho hs dL_law_893 (by omega) (by omega) ?_
      refine z_aload_n ho dL_law_894 rfl ?_
      refine z_iload ho dL_law_895 rfl ?_
      refine z_iconst ho dL_law_897 ?_
      refine z_iadd ho dL_law_898 ?_
      refine z_sld ho hs dL_law_899 (by omega) (by omega) ?_
      refine kX0_124 ho hN (c_mmatch _ _ hM2 ra rb) dL_law_900 hM2.1.1 (by omega) (Nat.le_of_ble_eq_true rfl) (by omega) (by omega) (fun x900 u900 h900 => ?_)
      refine z_istore ho dL_law_903 (Nat.le_of_ble_eq_true rfl) rfl ?_
      rcases h900 with ⟨z, -⟩ | ⟨vs', g0, g1, g3⟩
      · exact absurd hv z
      · rw [hvs] at g1
        cases g1
        rcases g3 with ⟨z, -⟩ | ⟨-, g2, g4⟩
        · omega
        · have hO3 := hO2.mo g2.1.mo
          refine tl_905 ho hN g2.2.2.1 g2.2.1 (by unfold rng; omega) hO3.1 hO3.2 (fun _ => ?_) (by omega) (by omega) (by omega) (z_cu (by omega) (by omega) (nx _ (LJ.of hw2 hH2 hO2 g2 hN1 (hB.clear hN1))))
          rw [g2.1.2.2.2 (x + 63) (Or.inr (by omega)) 0, e63, q3, g4]
    · 
      refine z_aload_n ho dL_law_868 rfl ?_
      refine z_aload_n ho dL_law_869 rfl ?_
      refine z_iload ho dL_law_870 rfl ?_
      refine z_iconst ho dL_law_872 ?_
      refine z_iadd ho dL_law_873 ?_
      refine z_sld ho hs dL_law_874 (by omega) (by omega) ?_
      refine z_aload_n ho dL_law_875 rfl ?_
      refine z_iload ho dL_law_876 rfl ?_
      refine z_iconst ho dL_law_878 ?_
      refine z_iadd ho dL_law_879 ?_
      refine z_sld ho hs dL_law_880 (by omega) (by omega) ?_
      refine z_aload_n ho dL_law_881 rfl ?_
      refine wX0_122 ho hN (w_match_20 _ _ (t_hmatch2 _ hst _ hH hv.1 hvs (by omega) rb) hkx (fun r v q => q.1)) dL_law_882 (by omega) (Nat.le_of_ble_eq_true rfl) (by omega) (by omega) (fun x882 u882 h882 => ?_)
      obtain ⟨rfl, e, q0, q1, q2⟩ := h882
      refine z_wf (fun hw2 => ?_)
      have hM2 := hM.mr q2
      have hO2 := hO.mr q2
      refine z_istore ho dL_law_885 (Nat.le_of_ble_eq_true rfl) rfl ?_
      refine z_aload_n ho dL_law_887 rfl ?_
      refine z_aload_n ho dL_law_888 rfl ?_
      refine z_iload ho dL_law_889 rfl ?_
      refine z_iconst ho dL_law_891 ?_
      refine z_iadd ho dL_law_892 ?_
      refine z_sld ho hs dL_law_893 (by omega) (by omega) ?_
      refine z_aload_n ho dL_law_894 rfl ?_
      refine z_iload ho dL_law_895 rfl ?_
      refine z_iconst ho dL_law_897 ?_
      refine z_iadd ho dL_law_898 ?_
      refine z_sld ho hs dL_law_899 (by omega) (by omega) ?_
      refine kX0_124 ho hN (c_mmatch _ _ hM2 ra rb) dL_law_900 hM2.1.1 (by omega) (Nat.le_of_ble_eq_true rfl) (by omega) (by omega) (fun x900 u900 h900 => ?_)
      refine z_istore ho dL_law_903 (Nat.le_of_ble_eq_true rfl) rfl ?_
      rcases h900 with ⟨z, -⟩ | ⟨vs', g0, g1, g3⟩
      · exact absurd hv z
      · rcases g3 with ⟨-, g2⟩ | ⟨z, -⟩
        · have hO3 := hO2.mo g2.1.mo
          exact tl_905 ho hN g2.2.2.1 g2.2.1 (by unfold rng; omega) hO3.1 hO3.2 (fun z => by omega) (by omega) (by omega) (by omega) (z_cu (by omega) (by omega) (nx _ (LJ.of hw2 q1 hO2 g2 hN1 (hB.clear hN1))))
        · omega
  · 
    refine z_aload_n ho dL_law_868 rfl ?_
    refine z_aload_n ho dL_law_869 rfl ?_
    refine z_iload ho dL_law_870 rfl ?_
    refine z_iconst ho dL_law_872 ?_
    refine z_iadd ho dL_law_873 ?_
    refine z_sld ho hs dL_law_874 (by omega) (by omega) ?_
    refine z_aload_n ho dL_law_875 rfl ?_
    refine z_iload ho dL_law_876 rfl ?_
    refine z_iconst ho dL_law_878 ?_
    refine z_iadd ho dL_law_879 ?_
    refine z_sld ho hs dL_law_880 (by omega) (by omega) ?_
    refine z_aload_n ho dL_law_881 rfl ?_
    refine wX0_122 ho hN (w_match_19 _ _ (t_hmatch1 _ hst _ hH ra hv) hkx (fun r v q => q.1)) dL_law_882 (by omega) (Nat.le_of_ble_eq_true rfl) (by omega) (by omega) (fun x882 u882 h882 => ?_)
    obtain ⟨rfl, e, q0, q1, q2⟩ := h882
    refine z_wf (fun hw2 => ?_)
    have hM2 := hM.mr q2
    have hO2 := hO.mr q2
    refine z_istore ho dL_law_885 (Nat.le_of_ble_eq_true rfl) rfl ?_
    refine z_aload_n ho dL_law_887 rfl ?_
    refine z_aload_n ho dL_law_888 rfl ?_
    refine z_iload ho dL_law_889 rfl ?_
    refine z_iconst ho dL_law_891 ?_
    refine z_iadd ho dL_law_892 ?_
    refine z_sld ho hs dL_law_893 (by omega) (by omega) ?_
    refine z_aload_n ho dL_law_894 rfl ?_
    refine z_iload ho dL_law_895 rfl ?_
    refine z_iconst ho dL_law_897 ?_
    refine z_iadd ho dL_law_898 ?_
    refine z_sld ho hs dL_law_899 (by omega) (by omega) ?_
    refine kX0_124 ho hN (c_mmatch _ _ hM2 ra rb) dL_law_900 hM2.1.1 (by omega) (Nat.le_of_ble_eq_true rfl) (by omega) (by omega) (fun x900 u900 h900 => ?_)
    refine z_istore ho dL_law_903 (Nat.le_of_ble_eq_true rfl) rfl ?_
    rcases h900 with ⟨z, g2⟩ | ⟨vs', g0, g1, g3⟩
    · have hO3 := hO2.mo g2.1.mo
      exact tl_905 ho hN g2.2.2.1 g2.2.1 (by unfold rng; omega) hO3.1 hO3.2 (fun z => by omega) (by omega) (by omega) (by omega) (z_cu (by omega) (by omega) (nx _ (LJ.of hw2 q1 hO2 g2 hN1 (hB.up hN1))))
    · exact absurd ⟨g0, by have := (List.getElem?_eq_some_iff.mp g1).1; omega⟩ hv
