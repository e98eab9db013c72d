set_option maxRecDepth 100000
/-! ===== the law: its state; the case get ===== -/
/-- the law's array -/
def LO (u : Mem) (x : Nat) : Prop := kd_ u (x + 63) = 104 ∧ ln_ u (x + 63) = 1
/-- what N calls can have made -/
def LB (N : Nat) (tp : List Int) (M : Nat → List KV) (ch : Nat → Int) (VL : List VS) : Prop := N ≤ 64 ∧ (∀ k, k < 3 → 2 * ((M k).filter (fun p => !p.1.isEmpty)).length + (if tp = [] then 0 else 1) ≤ N ∧ ch k ≤ N) ∧ 3 ≤ VL.length
def LJ (u : Mem) (x N : Nat) : Prop := ∃ tp fd M ch VL Ks T Os, HS u x tp fd M ch VL Ks T Os ∧ MS u (x + 34) N tp fd M ch VL Ks T Os ∧ LO u x ∧ LB N tp M ch VL
theorem LB.clear {N : Nat} {tp : List Int} {M : Nat → List KV} {ch : Nat → Int} {VL : List VS} (h : LB N tp M ch VL) (hN : N + 1 ≤ 64) : LB (N + 1) [] M ch VL := by
  refine ⟨hN, fun k hk => ?_, h.2.2⟩
  obtain ⟨h1, h2⟩ := h.2.1 k hk
  rw [if_pos rfl]
  exact ⟨by omega, by omega⟩
theorem LB.up {N : Nat} {tp : List Int} {M : Nat → List KV} {ch : Nat → Int} {VL : List VS} (h : LB N tp M ch VL) (hN : N + 1 ≤ 64) : LB (N + 1) tp M ch VL := by
  refine ⟨hN, fun k hk => ?_, h.2.2⟩
  obtain ⟨h1, h2⟩ := h.2.1 k hk
  exact ⟨by omega, by omega⟩
theorem LO.mr {u v : Mem} {x : Nat} (h : LO u x) (g : MR x u v) : LO v x := by
  have s := g.2 (x + 63) (by omega) (by omega)
  exact ⟨s.1.trans h.1, s.2.1.trans h.2⟩
theorem LO.mo {u v : Mem} {x : Nat} (h : LO u x) (g : Mo x u v) : LO v x := ⟨((g.2.1 _).1).trans h.1, ((g.2.1 _).2).trans h.2⟩
theorem MS.out {u : Mem} {x N : Nat} {i y : Int} {tp fd : List Int} {M : Nat → List KV} {ch : Nat → Int} {VL : List VS} {Ks : List (List Int)} {T : List Int} {Os : List (List Int)} (h : MS u (x + 34) N tp fd M ch VL Ks T Os) : MS (wI_ u (x + 63) i y) (x + 34) N tp fd M ch VL Ks T Os := h.fr (fun j hj => ⟨rfl, rfl, fun k => by rw [iv_wI, if_neg (by omega)], fun _ => rfl⟩)
/-- the model's call is done: what the law's end needs -/
theorem LJ.of {v w : Mem} {x N : Nat} {code : Int} {tp fd : List Int} {M : Nat → List KV} {ch : Nat → Int} {VL : List VS} {Ks : List (List Int)} {T : List Int} {Os : List (List Int)} (hw : Wf v) (hH : HS v x tp fd M ch VL Ks T Os) (hO : LO v x) (hq : qM (x + 34) N v code tp fd M ch VL Ks T Os w) (hN : N + 1 ≤ 64) (hB : LB (N + 1) tp M ch VL) : LJ w x (N + 1) := ⟨tp, fd, M, ch, VL, Ks, T, Os, hH.mod hw hq.1.mo, hq.2.2.le (by omega) (by omega), hO.mo hq.1.mo, hB⟩
theorem HS.kx {u : Mem} {x : Nat} {tp fd : List Int} {M : Nat → List KV} {ch : Nat → Int} {VL : List VS} {Ks : List (List Int)} {T : List Int} {Os : List (List Int)} (h : HS u x tp fd M ch VL Ks T Os) : kd_ u x = 1 := h.2.1.1
theorem k_get {X : Ctx_} {ret : Option FieldType} {d mc ms : Nat} {Q : Option AV → Mem → Prop} (ho : Ok_ X "KeyHallLaw" cL_law ret d mc ms Q) (hN : Nl_ X 7) {b L : Nat} {xs : Nat → Int32} (hs : Sx_ X b L xs) (hst : (La_ X).stackTraces = false) {u : Mem} {x N : Nat} {i : Int} {cu su : Nat} (h : LJ u x N) (hN1 : N + 1 ≤ 64) (h0 : 0 ≤ i) (h1 : i + 4 ≤ L) (hd : 2000 ≤ d) (hcu : cu + 2372 ≤ mc) (hsu : su + 14199 ≤ ms) (nx : ∀ u', LJ u' x (N + 1) → Z X 1297 [some (aR (b + 1)), some (aR x), some (aR (x + 34)), some (aR (x + 63)), some (aI i), none, none] [] u' (cu + 2372) (su + 14199)) : Z X 349 [some (aR (b + 1)), some (aR x), some (aR (x + 34)), some (aR (x + 63)), some (aI i), none, none] [] u cu su := by
  obtain ⟨tp, fd, M, ch, VL, Ks, T, Os, hH, hM, hO, hB⟩ := h
  have ra := rg_i32 (xs (i + 1).toNat)
  have hkx := hH.kx
  by_cases hv : 0 ≤ (xs (i + 1).toNat).toInt ∧ (xs (i + 1).toNat).toInt < VL.length
  · have hvs : VL[(xs (i + 1).toNat).toInt.toNat]? = some VL[(xs (i + 1).toNat).toInt.toNat] := List.getElem?_eq_getElem (by omega)
    generalize VL[(xs (i + 1).toNat).toInt.toNat] = vs at hvs
    refine z_aload_n ho dL_law_349 rfl ?_
    refine z_aload_n ho dL_law_350 rfl ?_
    refine z_iload ho dL_law_351 rfl ?_
    refine z_iconst ho dL_law_353 ?_
    refine z_iadd ho dL_law_354 ?_
    refine z_sld ho hs dL_law_355 (by omega) (by omega) ?_
    refine z_aload_n ho dL_law_356 rfl ?_
    refine wX0_86 ho hN (w_get _ _ (c_hget _ _ hH hv.1 hvs) hkx (fun r v q => hO.mr q.1)) dL_law_357 (by omega) (Nat.le_of_ble_eq_true rfl) (by omega) (by omega) (fun x357 u357 h357 => ?_)
    obtain ⟨rfl, y, w, ⟨q1, q2, q3⟩, rfl⟩ := h357
    refine z_wf (fun hw2 => ?_)
    have hH2 := HS.mod q2 hw2 (Mo.out 0 (Int32.ofInt y).toInt)
    have hM2 := (hM.mr q1).out (i := 0) (y := (Int32.ofInt y).toInt)
    have hO2 := (hO.mr q1).mo (Mo.out 0 (Int32.ofInt y).toInt)
    have e63 : iv_ (wI_ w (x + 63) 0 (Int32.ofInt y).toInt) (x + 63) 0 = (Int32.ofInt y).toInt := by rw [iv_wI, if_pos ⟨rfl, rfl⟩]
    generalize wI_ w (x + 63) 0 (Int32.ofInt y).toInt = v at *
    refine z_istore ho dL_law_360 (Nat.le_of_ble_eq_true rfl) rfl ?_
    refine z_aload_n ho dL_law_362 rfl ?_
    refine z_aload_n ho dL_law_363 rfl ?_
    refine z_iload ho dL_law_364 rfl ?_
    refine z_iconst ho dL_law_366 ?_
    refine z_iadd ho dL_law_367 ?_
    refine z_sld ho hs dL_law_368 (by omega) (by omega) ?_
    refine kX0_89 ho hN (c_mget _ _ hM2 ra) dL_law_369 hM2.1.1 (by omega) (Nat.le_of_ble_eq_true rfl) (by omega) (by omega) (fun x369 u369 h369 => ?_)
    refine z_istore ho dL_law_372 (Nat.le_of_ble_eq_true rfl) rfl ?_
    rcases h369 with ⟨z, -⟩ | ⟨vs', g0, g1, g2, g3⟩
    · exact absurd hv z
    · rw [hvs] at g1
      cases g1
      have eb : x369 = y := by
        have hnd := (hM.2.2.2.1 vs.1 (hM.2.2.2.2.1.2.2 _ vs hvs).1).2.2.2.1
        rcases q3 with ⟨a1, a2⟩ | ⟨a1, A, B, w', a2, a3, a4⟩
        · rcases g3 with ⟨-, b2⟩ | ⟨b1, b2⟩
          · omega
          · rcases a1 with z | z
            · exact absurd b1 z
            · exact absurd rfl (z _ b2)
        · rcases g3 with ⟨b1, -⟩ | ⟨b1, b2⟩
          · rcases b1 with z | z
            · exact absurd a1 z
            · exact absurd rfl (z (tp, w') (by rw [a2]; simp))
          · rw [a4]; exact kv_val hnd a2 b2
      have hO3 := hO2.mo g2.1.mo
      refine tl_374 ho hN g2.2.2.1 g2.2.1 (by unfold rng; omega) hO3.1 hO3.2 (fun _ => ?_) (by omega) (by omega) (by omega) (z_cu (by omega) (by omega) (nx _ (LJ.of hw2 hH2 hO2 g2 hN1 (hB.clear hN1))))
      rw [g2.1.2.2.2 (x + 63) (Or.inr (by omega)) 0, e63, eb]
  · 
    refine z_aload_n ho dL_law_349 rfl ?_
    refine z_aload_n ho dL_law_350 rfl ?_
    refine z_iload ho dL_law_351 rfl ?_
    refine z_iconst ho dL_law_353 ?_
    refine z_iadd ho dL_law_354 ?_
    refine z_sld ho hs dL_law_355 (by omega) (by omega) ?_
    refine z_aload_n ho dL_law_356 rfl ?_
    refine wX0_86 ho hN (w_get_19 _ _ (t_hget _ hst _ hH ra hv) hkx (fun r v q => q.1)) dL_law_357 (by omega) (Nat.le_of_ble_eq_true rfl) (by omega) (by omega) (fun x357 u357 h357 => ?_)
    obtain ⟨rfl, e, q0, q1, q2⟩ := h357
    refine z_wf (fun hw2 => ?_)
    have hM2 := hM.mr q2
    have hO2 := hO.mr q2
    refine z_istore ho dL_law_360 (Nat.le_of_ble_eq_true rfl) rfl ?_
    refine z_aload_n ho dL_law_362 rfl ?_
    refine z_aload_n ho dL_law_363 rfl ?_
    refine z_iload ho dL_law_364 rfl ?_
    refine z_iconst ho dL_law_366 ?_
    refine z_iadd ho dL_law_367 ?_
    refine z_sld ho hs dL_law_368 (by omega) (by omega) ?_
    refine kX0_89 ho hN (c_mget _ _ hM2 ra) dL_law_369 hM2.1.1 (by omega) (Nat.le_of_ble_eq_true rfl) (by omega) (by omega) (fun x369 u369 h369 => ?_)
    refine z_istore ho dL_law_372 (Nat.le_of_ble_eq_true rfl) rfl ?_
    rcases h369 with ⟨z, g2⟩ | ⟨vs', g0, g1, g2, g3⟩
    · have hO3 := hO2.mo g2.1.mo
      exact tl_374 ho hN g2.2.2.1 g2.2.1 (by unfold rng; omega) hO3.1 hO3.2 (fun z => by omega) (by omega) (by omega) (by omega) (z_cu (by omega) (by omega) (nx _ (LJ.of hw2 q1 hO2 g2 hN1 (hB.up hN1))))
    · exact absurd ⟨g0, by have := (List.getElem?_eq_some_iff.mp g1).1; omega⟩ hv
