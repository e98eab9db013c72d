set_option maxRecDepth 100000
/-! ===== the law: the cases remove, freeze ===== -/
theorem LB.ch6 {N : Nat} {tp : List Int} {M : Nat → List KV} {ch : Nat → Int} {VL : List VS} (h : LB N tp M ch VL) : ∀ k, k < 3 → ch k < 1000000 := fun k hk => by
  have := (h.2.1 k hk).2
  have := h.1
  omega
/-- a key goes -/
theorem LB.rem {N j : Nat} {tp tp' : List Int} {M : Nat → List KV} {ch : Nat → Int} {VL : List VS} {A B : List KV} {p : KV} (h : LB N tp M ch VL) (hN : N + 1 ≤ 64) (hj : M j = A ++ p :: B) (ht : tp' = [] ∨ tp' = tp) : LB (N + 1) tp' (fun k => if k = j then swp A B else M k) (fun k => if k = j then ch j + 1 else ch k) VL := by
  refine ⟨hN, fun k hk => ?_, h.2.2⟩
  obtain ⟨h1, h2⟩ := h.2.1 k hk
  have ht' : (if tp' = [] then 0 else 1) ≤ (if tp = [] then 0 else 1) := by
    rcases ht with z | z
    · rw [if_pos z]; exact Nat.zero_le _
    · rw [z]; exact Nat.le_refl _
  show 2 * ((if k = j then swp A B else M k).filter (fun p : KV => !p.1.isEmpty)).length + (if tp' = [] then 0 else 1) ≤ N + 1 ∧ (if k = j then ch j + 1 else ch k) ≤ ((N + 1 : Nat) : Int)
  by_cases hkj : k = j
  · subst hkj
    rw [if_pos rfl, if_pos rfl]
    have e := ((swp_perm A B).filter (fun p : KV => !p.1.isEmpty)).length_eq
    rw [hj] at h1
    rw [List.filter_append, List.length_append] at e h1
    rw [e]
    have e2 : (B.filter (fun p : KV => !p.1.isEmpty)).length ≤ ((p :: B).filter (fun p : KV => !p.1.isEmpty)).length := by
      rw [List.filter_cons]
      split
      · rw [List.length_cons]; omega
      · exact Nat.le_refl _
    exact ⟨by omega, by omega⟩
  · rw [if_neg hkj, if_neg hkj]
    exact ⟨by omega, by omega⟩
theorem k_freeze {X : Ctx_} {ret : Option FieldType} {d mc ms : Nat} {Q : Option AV → Mem → Prop} (ho : Ok_ X "KeyHallLaw" cL_law ret d mc ms Q) (hN : Nl_ X 7) {b L : Nat} {xs : Nat → Int32} (hs : Sx_ X b L xs) (hst : (La_ X).stackTraces = false) {u : Mem} {x N : Nat} {i : Int} {cu su : Nat} (h : LJ u x N) (hN1 : N + 1 ≤ 64) (h0 : 0 ≤ i) (h1 : i + 4 ≤ L) (hd : 2000 ≤ d) (hcu : cu + 2372 ≤ mc) (hsu : su + 14199 ≤ ms) (nx : ∀ u', LJ u' x (N + 1) → Z X 1297 [some (aR (b + 1)), some (aR x), some (aR (x + 34)), some (aR (x + 63)), some (aI i), none, none] [] u' (cu + 2372) (su + 14199)) : Z X 992 [some (aR (b + 1)), some (aR x), some (aR (x + 34)), some (aR (x + 63)), some (aI i), none, none] [] u cu su := by
  obtain ⟨tp, fd, M, ch, VL, Ks, T, Os, hH, hM, hO, hB⟩ := h
  have ra := rg_i32 (xs (i + 1).toNat)
  have hkx := hH.kx
  have h40 : ∀ k, k < 3 → (M k).length ≤ 40 := fun k hk => (hM.2.2.2.1 k hk).2.2.1
  by_cases hv : 0 ≤ (xs (i + 1).toNat).toInt ∧ (xs (i + 1).toNat).toInt < VL.length
  · have hvs : VL[(xs (i + 1).toNat).toInt.toNat]? = some VL[(xs (i + 1).toNat).toInt.toNat] := List.getElem?_eq_getElem (by omega)
    generalize VL[(xs (i + 1).toNat).toInt.toNat] = vs at hvs
    refine z_aload_n ho dL_law_992 rfl ?_
    refine z_aload_n ho dL_law_993 rfl ?_
    refine z_iload ho dL_law_994 rfl ?_
    refine z_iconst ho dL_law_996 ?_
    refine z_iadd ho dL_law_997 ?_
    refine z_sld ho hs dL_law_998 (by omega) (by omega) ?_
    refine z_aload_n ho dL_law_999 rfl ?_
    refine wX0_128 ho hN (w_freeze _ _ (c_hfreeze _ _ hH hv.1 hvs) hkx (fun r v q => hO.mr q.1)) dL_law_1000 (by omega) (Nat.le_of_ble_eq_true rfl) (by omega) (by omega) (fun x1000 u1000 h1000 => ?_)
    obtain ⟨rfl, y, w, ⟨q1, Ks', q2, q3, Rs, q4, q5⟩, rfl⟩ := h1000
    refine z_wf (fun hw2 => ?_)
    have hH2 := HS.mod q3 hw2 (Mo.out 0 (Int32.ofInt y).toInt)
    have hM2 := (hM.mr q1).out (i := 0) (y := (Int32.ofInt y).toInt)
    have hO2 := (hO.mr q1).mo (Mo.out 0 (Int32.ofInt y).toInt)
    have e63 : iv_ (wI_ w (x + 63) 0 (Int32.ofInt y).toInt) (x + 63) 0 = (Int32.ofInt y).toInt := by rw [iv_wI, if_pos ⟨rfl, rfl⟩]
    generalize wI_ w (x + 63) 0 (Int32.ofInt y).toInt = v at *
    refine z_istore ho dL_law_1003 (Nat.le_of_ble_eq_true rfl) rfl ?_
    refine z_aload_n ho dL_law_1005 rfl ?_
    refine z_aload_n ho dL_law_1006 rfl ?_
    refine z_iload ho dL_law_1007 rfl ?_
    refine z_iconst ho dL_law_1009 ?_
    refine z_iadd ho dL_law_1010 ?_
    refine z_sld ho hs dL_law_1011 (by omega) (by omega) ?_
    refine kX0_130 ho hN (c_mfreeze _ _ hM2 ra h40) dL_law_1012 hM2.1.1 (by omega) (Nat.le_of_ble_eq_true rfl) (by omega) (by omega) (fun x1012 u1012 h1012 => ?_)
    refine z_istore ho dL_law_1015 (Nat.le_of_ble_eq_true rfl) rfl ?_
    rcases h1012 with ⟨z, -⟩ | ⟨vs', g0, g1, g3⟩
    · exact absurd hv z
    · rw [hvs] at g1
      cases g1
      obtain ⟨g2, Rs', g4, g5⟩ := g3 Ks' q2
      have eb : x1012 = y := by rw [g5, q5, g4.nums q4 (fun _ => Iff.rfl)]
      have hO3 := hO2.mo g2.1.mo
      refine tl_1017 ho hN g2.2.2.1 g2.2.1 (by unfold rng; omega) hO3.1 hO3.2 (fun _ => ?_) (by omega) (by omega) (by omega) (z_cu (by omega) (by omega) (nx _ (LJ.of hw2 hH2 hO2 g2 hN1 (hB.up hN1))))
      rw [g2.1.2.2.2 (x + 63) (Or.inr (by omega)) 0, e63, eb]
  · 
    refine z_aload_n ho dL_law_992 rfl ?_
    refine z_aload_n ho dL_law_993 rfl ?_
    refine z_iload ho dL_law_994 rfl ?_
    refine z_iconst ho dL_law_996 ?_
    refine z_iadd ho dL_law_997 ?_
    refine z_sld ho hs dL_law_998 (by omega) (by omega) ?_
    refine z_aload_n ho dL_law_999 rfl ?_
    refine wX0_128 ho hN (w_freeze_19 _ _ (t_hfreeze _ hst _ hH ra hv) hkx (fun r v q => q.1)) dL_law_1000 (by omega) (Nat.le_of_ble_eq_true rfl) (by omega) (by omega) (fun x1000 u1000 h1000 => ?_)
    obtain ⟨rfl, e, q0, q1, q2⟩ := h1000
    refine z_wf (fun hw2 => ?_)
    have hM2 := hM.mr q2
    have hO2 := hO.mr q2
    refine z_istore ho dL_law_1003 (Nat.le_of_ble_eq_true rfl) rfl ?_
    refine z_aload_n ho dL_law_1005 rfl ?_
    refine z_aload_n ho dL_law_1006 rfl ?_
    refine z_iload ho dL_law_1007 rfl ?_
    refine z_iconst ho dL_law_1009 ?_
    refine z_iadd ho dL_law_1010 ?_
    refine z_sld ho hs dL_law_1011 (by omega) (by omega) ?_
    refine kX0_130 ho hN (c_mfreeze _ _ hM2 ra h40) dL_law_1012 hM2.1.1 (by omega) (Nat.le_of_ble_eq_true rfl) (by omega) (by omega) (fun x1012 u1012 h1012 => ?_)
    refine z_istore ho dL_law_1015 (Nat.le_of_ble_eq_true rfl) rfl ?_
    rcases h1012 with ⟨z, -, g2⟩ | ⟨vs', g0, g1, g3⟩
    · have hO3 := hO2.mo g2.1.mo
      exact tl_1017 ho hN g2.2.2.1 g2.2.1 (by unfold rng; omega) hO3.1 hO3.2 (fun z => by omega) (by omega) (by omega) (by omega) (z_cu (by omega) (by omega) (nx _ (LJ.of hw2 q1 hO2 g2 hN1 (hB.up hN1))))
    · exact absurd ⟨g0, by have := (List.getElem?_eq_some_iff.mp g1).1; omega⟩ hv
theorem k_remove {X : Ctx_} {ret : Option FieldType} {d mc ms : Nat} {Q : Option AV → Mem → Prop} (ho : Ok_ X "KeyHallLaw" cL_law ret d mc ms Q) (hN : Nl_ X 7) {b L : Nat} {xs : Nat → Int32} (hs : Sx_ X b L xs) (hst : (La_ X).stackTraces = false) {u : Mem} {x N : Nat} {i : Int} {cu su : Nat} (h : LJ u x N) (hN1 : N + 1 ≤ 64) (h0 : 0 ≤ i) (h1 : i + 4 ≤ L) (hd : 2000 ≤ d) (hcu : cu + 2372 ≤ mc) (hsu : su + 14199 ≤ ms) (nx : ∀ u', LJ u' x (N + 1) → Z X 1297 [some (aR (b + 1)), some (aR x), some (aR (x + 34)), some (aR (x + 63)), some (aI i), none, none] [] u' (cu + 2372) (su + 14199)) : Z X 405 [some (aR (b + 1)), some (aR x), some (aR (x + 34)), some (aR (x + 63)), some (aI i), none, none] [] u cu su := by
  obtain ⟨tp, fd, M, ch, VL, Ks, T, Os, hH, hM, hO, hB⟩ := h
  have ra := rg_i32 (xs (i + 1).toNat)
  have hkx := hH.kx
  by_cases hv : 0 ≤ (xs (i + 1).toNat).toInt ∧ (xs (i + 1).toNat).toInt < VL.length
  · have hvs : VL[(xs (i + 1).toNat).toInt.toNat]? = some VL[(xs (i + 1).toNat).toInt.toNat] := List.getElem?_eq_getElem (by omega)
    generalize VL[(xs (i + 1).toNat).toInt.toNat] = vs at hvs
    have hnd := (hM.2.2.2.1 vs.1 (hM.2.2.2.2.1.2.2 _ vs hvs).1).2.2.2.1
    refine z_aload_n ho dL_law_405 rfl ?_
    refine z_aload_n ho dL_law_406 rfl ?_
    refine z_iload ho dL_law_407 rfl ?_
    refine z_iconst ho dL_law_409 ?_
    refine z_iadd ho dL_law_410 ?_
    refine z_sld ho hs dL_law_411 (by omega) (by omega) ?_
    refine z_aload_n ho dL_law_412 rfl ?_
    refine wX0_90 ho hN (w_remove _ _ (c_hremove _ _ hH hv.1 hvs hB.ch6) hkx (fun r v q => hO.mr q.1)) dL_law_413 (by omega) (Nat.le_of_ble_eq_true rfl) (by omega) (by omega) (fun x413 u413 h413 => ?_)
    obtain ⟨rfl, y, w, ⟨q1, q3⟩, rfl⟩ := h413
    refine z_wf (fun hw2 => ?_)
    have hM2 := (hM.mr q1).out (i := 0) (y := (Int32.ofInt y).toInt)
    have hO2 := (hO.mr q1).mo (Mo.out 0 (Int32.ofInt y).toInt)
    have e63 : iv_ (wI_ w (x + 63) 0 (Int32.ofInt y).toInt) (x + 63) 0 = (Int32.ofInt y).toInt := by rw [iv_wI, if_pos ⟨rfl, rfl⟩]
    have hmo : Mo x w (wI_ w (x + 63) 0 (Int32.ofInt y).toInt) := Mo.out 0 _
    have hw3 : Wf w := hw2
    generalize wI_ w (x + 63) 0 (Int32.ofInt y).toInt = v at *
    refine z_istore ho dL_law_416 (Nat.le_of_ble_eq_true rfl) rfl ?_
    refine z_aload_n ho dL_law_418 rfl ?_
    refine z_aload_n ho dL_law_419 rfl ?_
    refine z_iload ho dL_law_420 rfl ?_
    refine z_iconst ho dL_law_422 ?_
    refine z_iadd ho dL_law_423 ?_
    refine z_sld ho hs dL_law_424 (by omega) (by omega) ?_
    refine kX0_92 ho hN (c_mremove _ _ hM2 ra hB.ch6) dL_law_425 hM2.1.1 (by omega) (Nat.le_of_ble_eq_true rfl) (by omega) (by omega) (fun x425 u425 h425 => ?_)
    refine z_istore ho dL_law_428 (Nat.le_of_ble_eq_true rfl) rfl ?_
    rcases h425 with ⟨z, -⟩ | ⟨vs', g0, g1, g3⟩
    · exact absurd hv z
    · rw [hvs] at g1
      cases g1
      rcases q3 with ⟨a1, a2, a3⟩ | ⟨a1, A, B, w', a2, a3, a4, a5⟩
      · rcases g3 with ⟨-, b2, g2⟩ | ⟨b1, A', B', b2, -⟩
        · have hO3 := hO2.mo g2.1.mo
          refine tl_430 ho hN g2.2.2.1 g2.2.1 (by unfold rng; omega) hO3.1 hO3.2 (fun _ => ?_) (by omega) (by omega) (by omega) (z_cu (by omega) (by omega) (nx _ (LJ.of hw2 (a3.mod hw3 hmo) hO2 g2 hN1 (hB.clear hN1))))
          rw [g2.1.2.2.2 (x + 63) (Or.inr (by omega)) 0, e63, a2, b2]
        · rcases a1 with z | z
          · exact absurd b1 z
          · exact absurd rfl (z (tp, x425) (by rw [b2]; simp))
      · rcases g3 with ⟨b1, -⟩ | ⟨b1, A', B', b2, g2⟩
        · rcases b1 with z | z
          · exact absurd a1 z
          · exact absurd rfl (z (tp, w') (by rw [a2]; simp))
        · obtain ⟨c1, c2, c3⟩ := kv_split hnd a2 b2 rfl
          cases c1
          cases c2
          cases c3
          have hO3 := hO2.mo g2.1.mo
          refine tl_430 ho hN g2.2.2.1 g2.2.1 (by unfold rng; omega) hO3.1 hO3.2 (fun _ => ?_) (by omega) (by omega) (by omega) (z_cu (by omega) (by omega) (nx _ (LJ.of hw2 (a5.mod hw3 hmo) hO2 g2 hN1 (hB.rem hN1 a2 (Or.inl rfl)))))
          rw [g2.1.2.2.2 (x + 63) (Or.inr (by omega)) 0, e63, a4]
  · 
    refine z_aload_n ho dL_law_405 rfl ?_
    refine z_aload_n ho dL_law_406 rfl ?_
    refine z_iload ho dL_law_407 rfl ?_
    refine z_iconst ho dL_law_409 ?_
    refine z_iadd ho dL_law_410 ?_
    refine z_sld ho hs dL_law_411 (by omega) (by omega) ?_
    refine z_aload_n ho dL_law_412 rfl ?_
    refine wX0_90 ho hN (w_remove_19 _ _ (t_hremove _ hst _ hH ra hv) hkx (fun r v q => q.1)) dL_law_413 (by omega) (Nat.le_of_ble_eq_true rfl) (by omega) (by omega) (fun x413 u413 h413 => ?_)
    obtain ⟨rfl, e, q0, q1, q2⟩ := h413
    refine z_wf (fun hw2 => ?_)
    have hM2 := hM.mr q2
    have hO2 := hO.mr q2
    refine z_istore ho dL_law_416 (Nat.le_of_ble_eq_true rfl) rfl ?_
    refine z_aload_n ho dL_law_418 rfl ?_
    refine z_aload_n ho dL_law_419 rfl ?_
    refine z_iload ho dL_law_420 rfl ?_
    refine z_iconst ho dL_law_422 ?_
    refine z_iadd ho dL_law_423 ?_
    refine z_sld ho hs dL_law_424 (by omega) (by omega) ?_
    refine kX0_92 ho hN (c_mremove _ _ hM2 ra hB.ch6) dL_law_425 hM2.1.1 (by omega) (Nat.le_of_ble_eq_true rfl) (by omega) (by omega) (fun x425 u425 h425 => ?_)
    refine z_istore ho dL_law_428 (Nat.le_of_ble_eq_true rfl) rfl ?_
    rcases h425 with ⟨z, g2⟩ | ⟨vs', g0, g1, g3⟩
    · have hO3 := hO2.mo g2.1.mo
      exact tl_430 ho hN g2.2.2.1 g2.2.1 (by unfold rng; omega) hO3.1 hO3.2 (fun z => by omega) (by omega) (by omega) (by omega) (z_cu (by omega) (by omega) (nx _ (LJ.of hw2 q1 hO2 g2 hN1 (hB.up hN1))))
    · exact absurd ⟨g0, by have := (List.getElem?_eq_some_iff.mp g1).1; omega⟩ hv
