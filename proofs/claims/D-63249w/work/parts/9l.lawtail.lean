set_option maxRecDepth 100000
/-! ===== the law: the end of a case ===== -/
theorem tl_250 {X : Ctx_} {ret : Option FieldType} {d mc ms : Nat} {Q : Option AV → Mem → Prop} (ho : Ok_ X "KeyHallLaw" cL_law ret d mc ms Q) (hN : Nl_ X 7) {u : Mem} {x : Nat} {o0 : AV} {i k b : Int} {cu su : Nat} (hm : MF u (x + 34)) (hk : iv_ u (x + 34) 0 = k) (rk : rng k) (hko : kd_ u (x + 63) = 104) (hlo : ln_ u (x + 63) = 1) (hv : k = 0 → iv_ u (x + 63) 0 = (Int32.ofInt b).toInt) (hdp : 1 ≤ d) (hcu : cu ≤ mc) (hsu : su ≤ ms) (nx : Z X 1297 [some o0, some (aR x), some (aR (x + 34)), some (aR (x + 63)), some (aI i), none, none] [] u cu su) : Z X 250 [some o0, some (aR x), some (aR (x + 34)), some (aR (x + 63)), some (aI i), some (aI k), some (aI b)] [] u cu su := by
  have nx2 : Z X 278 [some o0, some (aR x), some (aR (x + 34)), some (aR (x + 63)), some (aI i), some (aI k), some (aI b)] [] u cu su := by
    refine z_goto (tgt := 1297) ho dL_law_278 (by decide) ?_
    refine z_wk ?_ nx
    exact ⟨rfl, rfl, rfl, rfl, rfl, trivial⟩
  refine z_aload_n ho dL_law_250 rfl ?_
  refine kX0_79 ho hN (c_thrown _ _ hm) dL_law_251 hm.1 hdp (Nat.le_of_ble_eq_true rfl) (by omega) (by omega) (fun x251 u251 h251 => ?_)
  obtain ⟨rfl, hr⟩ := h251
  refine z_iload ho dL_law_254 rfl ?_
  refine z_icmp_eq (tgt := 261) ho dL_law_256 (by decide) (by rw [hr, hk]; exact rk) rk (fun c256 => ?_) (fun c256 => ?_)
  · 
    refine z_iload ho dL_law_261 rfl ?_
    refine z_if_ne (tgt := 278) ho dL_law_263 (by decide) rk (fun c263 => ?_) (fun c263 => ?_)
    · exact nx2
    · 
      refine z_aload_n ho dL_law_266 rfl ?_
      refine z_iconst ho dL_law_267 ?_
      refine z_lald ho dL_law_268 hko (by omega) (by rw [hlo]; omega) ?_
      refine z_iload ho dL_law_269 rfl ?_
      refine z_i2l ho dL_law_271 ?_
      refine z_lcmp ho dL_law_272 (fun z272 rz272 hz272 => ?_)
      refine z_if_eq (tgt := 278) ho dL_law_273 (by decide) rz272 (fun c273 => ?_) (fun c273 => ?_)
      · exact nx2
      · refine absurd (hz272.mpr ?_) c273
        rw [hv c263]
        rfl
  · exact absurd (hr.trans hk) c256
theorem tl_318 {X : Ctx_} {ret : Option FieldType} {d mc ms : Nat} {Q : Option AV → Mem → Prop} (ho : Ok_ X "KeyHallLaw" cL_law ret d mc ms Q) (hN : Nl_ X 7) {u : Mem} {x : Nat} {o0 : AV} {i k b : Int} {cu su : Nat} (hm : MF u (x + 34)) (hk : iv_ u (x + 34) 0 = k) (rk : rng k) (hko : kd_ u (x + 63) = 104) (hlo : ln_ u (x + 63) = 1) (hv : k = 0 → iv_ u (x + 63) 0 = (Int32.ofInt b).toInt) (hdp : 1 ≤ d) (hcu : cu ≤ mc) (hsu : su ≤ ms) (nx : Z X 1297 [some o0, some (aR x), some (aR (x + 34)), some (aR (x + 63)), some (aI i), none, none] [] u cu su) : Z X 318 [some o0, some (aR x), some (aR (x + 34)), some (aR (x + 63)), some (aI i), some (aI k), some (aI b)] [] u cu su := by
  have nx2 : Z X 346 [some o0, some (aR x), some (aR (x + 34)), some (aR (x + 63)), some (aI i), some (aI k), some (aI b)] [] u cu su := by
    refine z_goto (tgt := 1297) ho dL_law_346 (by decide) ?_
    refine z_wk ?_ nx
    exact ⟨rfl, rfl, rfl, rfl, rfl, trivial⟩
  refine z_aload_n ho dL_law_318 rfl ?_
  refine kX0_79 ho hN (c_thrown _ _ hm) dL_law_319 hm.1 hdp (Nat.le_of_ble_eq_true rfl) (by omega) (by omega) (fun x319 u319 h319 => ?_)
  obtain ⟨rfl, hr⟩ := h319
  refine z_iload ho dL_law_322 rfl ?_
  refine z_icmp_eq (tgt := 329) ho dL_law_324 (by decide) (by rw [hr, hk]; exact rk) rk (fun c324 => ?_) (fun c324 => ?_)
  · 
    refine z_iload ho dL_law_329 rfl ?_
    refine z_if_ne (tgt := 346) ho dL_law_331 (by decide) rk (fun c331 => ?_) (fun c331 => ?_)
    · exact nx2
    · 
      refine z_aload_n ho dL_law_334 rfl ?_
      refine z_iconst ho dL_law_335 ?_
      refine z_lald ho dL_law_336 hko (by omega) (by rw [hlo]; omega) ?_
      refine z_iload ho dL_law_337 rfl ?_
      refine z_i2l ho dL_law_339 ?_
      refine z_lcmp ho dL_law_340 (fun z340 rz340 hz340 => ?_)
      refine z_if_eq (tgt := 346) ho dL_law_341 (by decide) rz340 (fun c341 => ?_) (fun c341 => ?_)
      · exact nx2
      · refine absurd (hz340.mpr ?_) c341
        rw [hv c331]
        rfl
  · exact absurd (hr.trans hk) c324
theorem tl_374 {X : Ctx_} {ret : Option FieldType} {d mc ms : Nat} {Q : Option AV → Mem → Prop} (ho : Ok_ X "KeyHallLaw" cL_law ret d mc ms Q) (hN : Nl_ X 7) {u : Mem} {x : Nat} {o0 : AV} {i k b : Int} {cu su : Nat} (hm : MF u (x + 34)) (hk : iv_ u (x + 34) 0 = k) (rk : rng k) (hko : kd_ u (x + 63) = 104) (hlo : ln_ u (x + 63) = 1) (hv : k = 0 → iv_ u (x + 63) 0 = (Int32.ofInt b).toInt) (hdp : 1 ≤ d) (hcu : cu ≤ mc) (hsu : su ≤ ms) (nx : Z X 1297 [some o0, some (aR x), some (aR (x + 34)), some (aR (x + 63)), some (aI i), none, none] [] u cu su) : Z X 374 [some o0, some (aR x), some (aR (x + 34)), some (aR (x + 63)), some (aI i), some (aI k), some (aI b)] [] u cu su := by
  have nx2 : Z X 402 [some o0, some (aR x), some (aR (x + 34)), some (aR (x + 63)), some (aI i), some (aI k), some (aI b)] [] u cu su := by
    refine z_goto (tgt := 1297) ho dL_law_402 (by decide) ?_
    refine z_wk ?_ nx
    exact ⟨rfl, rfl, rfl, rfl, rfl, trivial⟩
  refine z_aload_n ho dL_law_374 rfl ?_
  refine kX0_79 ho hN (c_thrown _ _ hm) dL_law_375 hm.1 hdp (Nat.le_of_ble_eq_true rfl) (by omega) (by omega) (fun x375 u375 h375 => ?_)
  obtain ⟨rfl, hr⟩ := h375
  refine z_iload ho dL_law_378 rfl ?_
  refine z_icmp_eq (tgt := 385) ho dL_law_380 (by decide) (by rw [hr, hk]; exact rk) rk (fun c380 => ?_) (fun c380 => ?_)
  · 
    refine z_iload ho dL_law_385 rfl ?_
    refine z_if_ne (tgt := 402) ho dL_law_387 (by decide) rk (fun c387 => ?_) (fun c387 => ?_)
    · exact nx2
    · 
      refine z_aload_n ho dL_law_390 rfl ?_
      refine z_iconst ho dL_law_391 ?_
      refine z_lald ho dL_law_392 hko (by omega) (by rw [hlo]; omega) ?_
      refine z_iload ho dL_law_393 rfl ?_
      refine z_i2l ho dL_law_395 ?_
      refine z_lcmp ho dL_law_396 (fun z396 rz396 hz396 => ?_)
      refine z_if_eq (tgt := 402) ho dL_law_397 (by decide) rz396 (fun c397 => ?_) (fun c397 => ?_)
      · exact nx2
      · refine absurd (hz396.mpr ?_) c397
        rw [hv c387]
        rfl
  · exact absurd (hr.trans hk) c380
theorem tl_430 {X : Ctx_} {ret : Option FieldType} {d mc ms : Nat} {Q : Option AV → Mem → Prop} (ho : Ok_ X "KeyHallLaw" cL_law ret d mc ms Q) (hN : Nl_ X 7) {u : Mem} {x : Nat} {o0 : AV} {i k b : Int} {cu su : Nat} (hm : MF u (x + 34)) (hk : iv_ u (x + 34) 0 = k) (rk : rng k) (hko : kd_ u (x + 63) = 104) (hlo : ln_ u (x + 63) = 1) (hv : k = 0 → iv_ u (x + 63) 0 = (Int32.ofInt b).toInt) (hdp : 1 ≤ d) (hcu : cu ≤ mc) (hsu : su ≤ ms) (nx : Z X 1297 [some o0, some (aR x), some (aR (x + 34)), some (aR (x + 63)), some (aI i), none, none] [] u cu su) : Z X 430 [some o0, some (aR x), some (aR (x + 34)), some (aR (x + 63)), some (aI i), some (aI k), some (aI b)] [] u cu su := by
  have nx2 : Z X 458 [some o0, some (aR x), some (aR (x + 34)), some (aR (x + 63)), some (aI i), some (aI k), some (aI b)] [] u cu su := by
    refine z_goto (tgt := 1297) ho dL_law_458 (by decide) ?_
    refine z_wk ?_ nx
    exact ⟨rfl, rfl, rfl, rfl, rfl, trivial⟩
  refine z_aload_n ho dL_law_430 rfl ?_
  refine kX0_79 ho hN (c_thrown _ _ hm) dL_law_431 hm.1 hdp (Nat.le_of_ble_eq_true rfl) (by omega) (by omega) (fun x431 u431 h431 => ?_)
  obtain ⟨rfl, hr⟩ := h431
  refine z_iload ho dL_law_434 rfl ?_
  refine z_icmp_eq (tgt := 441) ho dL_law_436 (by decide) (by rw [hr, hk]; exact rk) rk (fun c436 => ?_) (fun c436 => ?_)
  · 
    refine z_iload ho dL_law_441 rfl ?_
    refine z_if_ne (tgt := 458) ho dL_law_443 (by decide) rk (fun c443 => ?_) (fun c443 => ?_)
    · exact nx2
    · 
      refine z_aload_n ho dL_law_446 rfl ?_
      refine z_iconst ho dL_law_447 ?_
      refine z_lald ho dL_law_448 hko (by omega) (by rw [hlo]; omega) ?_
      refine z_iload ho dL_law_449 rfl ?_
      refine z_i2l ho dL_law_451 ?_
      refine z_lcmp ho dL_law_452 (fun z452 rz452 hz452 => ?_)
      refine z_if_eq (tgt := 458) ho dL_law_453 (by decide) rz452 (fun c453 => ?_) (fun c453 => ?_)
      · exact nx2
      · refine absurd (hz452.mpr ?_) c453
        rw [hv c443]
        rfl
  · exact absurd (hr.trans hk) c436
theorem tl_523 {X : Ctx_} {ret : Option FieldType} {d mc ms : Nat} {Q : Option AV → Mem → Prop} (ho : Ok_ X "KeyHallLaw" cL_law ret d mc ms Q) (hN : Nl_ X 7) {u : Mem} {x : Nat} {o0 : AV} {i k b : Int} {cu su : Nat} (hm : MF u (x + 34)) (hk : iv_ u (x + 34) 0 = k) (rk : rng k) (hko : kd_ u (x + 63) = 104) (hlo : ln_ u (x + 63) = 1) (hv : k = 0 → iv_ u (x + 63) 0 = (Int32.ofInt b).toInt) (hdp : 1 ≤ d) (hcu : cu ≤ mc) (hsu : su ≤ ms) (nx : Z X 1297 [some o0, some (aR x), some (aR (x + 34)), some (aR (x + 63)), some (aI i), none, none] [] u cu su) : Z X 523 [some o0, some (aR x), some (aR (x + 34)), some (aR (x + 63)), some (aI i), some (aI k), some (aI b)] [] u cu su := by
  have nx2 : Z X 551 [some o0, some (aR x), some (aR (x + 34)), some (aR (x + 63)), some (aI i), some (aI k), some (aI b)] [] u cu su := by
    refine z_goto (tgt := 1297) ho dL_law_551 (by decide) ?_
    refine z_wk ?_ nx
    exact ⟨rfl, rfl, rfl, rfl, rfl, trivial⟩
  refine z_aload_n ho dL_law_523 rfl ?_
  refine kX0_79 ho hN (c_thrown _ _ hm) dL_law_524 hm.1 hdp (Nat.le_of_ble_eq_true rfl) (by omega) (by omega) (fun x524 u524 h524 => ?_)
  obtain ⟨rfl, hr⟩ := h524
  refine z_iload ho dL_law_527 rfl ?_
  refine z_icmp_eq (tgt := 534) ho dL_law_529 (by decide) (by rw [hr, hk]; exact rk) rk (fun c529 => ?_) (fun c529 => ?_)
  · 
    refine z_iload ho dL_law_534 rfl ?_
    refine z_if_ne (tgt := 551) ho dL_law_536 (by decide) rk (fun c536 => ?_) (fun c536 => ?_)
    · exact nx2
    · 
      refine z_aload_n ho dL_law_539 rfl ?_
      refine z_iconst ho dL_law_540 ?_
      refine z_lald ho dL_law_541 hko (by omega) (by rw [hlo]; omega) ?_
      refine z_iload ho dL_law_542 rfl ?_
      refine z_i2l ho dL_law_544 ?_
      refine z_lcmp ho dL_law_545 (fun z545 rz545 hz545 => ?_)
      refine z_if_eq (tgt := 551) ho dL_law_546 (by decide) rz545 (fun c546 => ?_) (fun c546 => ?_)
      · exact nx2
      · refine absurd (hz545.mpr ?_) c546
        rw [hv c536]
        rfl
  · exact absurd (hr.trans hk) c529
theorem tl_591 {X : Ctx_} {ret : Option FieldType} {d mc ms : Nat} {Q : Option AV → Mem → Prop} (ho : Ok_ X "KeyHallLaw" cL_law ret d mc ms Q) (hN : Nl_ X 7) {u : Mem} {x : Nat} {o0 : AV} {i k b : Int} {cu su : Nat} (hm : MF u (x + 34)) (hk : iv_ u (x + 34) 0 = k) (rk : rng k) (hko : kd_ u (x + 63) = 104) (hlo : ln_ u (x + 63) = 1) (hv : k = 0 → iv_ u (x + 63) 0 = (Int32.ofInt b).toInt) (hdp : 1 ≤ d) (hcu : cu ≤ mc) (hsu : su ≤ ms) (nx : Z X 1297 [some o0, some (aR x), some (aR (x + 34)), some (aR (x + 63)), some (aI i), none, none] [] u cu su) : Z X 591 [some o0, some (aR x), some (aR (x + 34)), some (aR (x + 63)), some (aI i), some (aI k), some (aI b)] [] u cu su := by
  have nx2 : Z X 619 [some o0, some (aR x), some (aR (x + 34)), some (aR (x + 63)), some (aI i), some (aI k), some (aI b)] [] u cu su := by
    refine z_goto (tgt := 1297) ho dL_law_619 (by decide) ?_
    refine z_wk ?_ nx
    exact ⟨rfl, rfl, rfl, rfl, rfl, trivial⟩
  refine z_aload_n ho dL_law_591 rfl ?_
  refine kX0_79 ho hN (c_thrown _ _ hm) dL_law_592 hm.1 hdp (Nat.le_of_ble_eq_true rfl) (by omega) (by omega) (fun x592 u592 h592 => ?_)
  obtain ⟨rfl, hr⟩ := h592
  refine z_iload ho dL_law_595 rfl ?_
  refine z_icmp_eq (tgt := 602) ho dL_law_597 (by decide) (by rw [hr, hk]; exact rk) rk (fun c597 => ?_) (fun c597 => ?_)
  · 
    refine z_iload ho dL_law_602 rfl ?_
    refine z_if_ne (tgt := 619) ho dL_law_604 (by decide) rk (fun c604 => ?_) (fun c604 => ?_)
    · exact nx2
    · 
      refine z_aload_n ho dL_law_607 rfl ?_
      refine z_iconst ho dL_law_608 ?_
      refine z_lald ho dL_law_609 hko (by omega) (by rw [hlo]; omega) ?_
      refine z_iload ho dL_law_610 rfl ?_
      refine z_i2l ho dL_law_612 ?_
      refine z_lcmp ho dL_law_613 (fun z613 rz613 hz613 => ?_)
      refine z_if_eq (tgt := 619) ho dL_law_614 (by decide) rz613 (fun c614 => ?_) (fun c614 => ?_)
      · exact nx2
      · refine absurd (hz613.mpr ?_) c614
        rw [hv c604]
        rfl
  · exact absurd (hr.trans hk) c597
theorem tl_675 {X : Ctx_} {ret : Option FieldType} {d mc ms : Nat} {Q : Option AV → Mem → Prop} (ho : Ok_ X "KeyHallLaw" cL_law ret d mc ms Q) (hN : Nl_ X 7) {u : Mem} {x : Nat} {o0 : AV} {i k b : Int} {cu su : Nat} (hm : MF u (x + 34)) (hk : iv_ u (x + 34) 0 = k) (rk : rng k) (hko : kd_ u (x + 63) = 104) (hlo : ln_ u (x + 63) = 1) (hv : k = 0 → iv_ u (x + 63) 0 = (Int32.ofInt b).toInt) (hdp : 1 ≤ d) (hcu : cu ≤ mc) (hsu : su ≤ ms) (nx : Z X 1297 [some o0, some (aR x), some (aR (x + 34)), some (aR (x + 63)), some (aI i), none, none] [] u cu su) : Z X 675 [some o0, some (aR x), some (aR (x + 34)), some (aR (x + 63)), some (aI i), some (aI k), some (aI b)] [] u cu su := by
  have nx2 : Z X 703 [some o0, some (aR x), some (aR (x + 34)), some (aR (x + 63)), some (aI i), some (aI k), some (aI b)] [] u cu su := by
    refine z_goto (tgt := 1297) ho dL_law_703 (by decide) ?_
    refine z_wk ?_ nx
    exact ⟨rfl, rfl, rfl, rfl, rfl, trivial⟩
  refine z_aload_n ho dL_law_675 rfl ?_
  refine kX0_79 ho hN (c_thrown _ _ hm) dL_law_676 hm.1 hdp (Nat.le_of_ble_eq_true rfl) (by omega) (by omega) (fun x676 u676 h676 => ?_)
  obtain ⟨rfl, hr⟩ := h676
  refine z_iload ho dL_law_679 rfl ?_
  refine z_icmp_eq (tgt := 686) ho dL_law_681 (by decide) (by rw [hr, hk]; exact rk) rk (fun c681 => ?_) (fun c681 => ?_)
  · 
    refine z_iload ho dL_law_686 rfl ?_
    refine z_if_ne (tgt := 703) ho dL_law_688 (by decide) rk (fun c688 => ?_) (fun c688 => ?_)
    · exact nx2
    · 
      refine z_aload_n ho dL_law_691 rfl ?_
      refine z_iconst ho dL_law_692 ?_
      refine z_lald ho dL_law_693 hko (by omega) (by rw [hlo]; omega) ?_
      refine z_iload ho dL_law_694 rfl ?_
      refine z_i2l ho dL_law_696 ?_
      refine z_lcmp ho dL_law_697 (fun z697 rz697 hz697 => ?_)
      refine z_if_eq (tgt := 703) ho dL_law_698 (by decide) rz697 (fun c698 => ?_) (fun c698 => ?_)
      · exact nx2
      · refine absurd (hz697.mpr ?_) c698
        rw [hv c688]
        rfl
  · exact absurd (hr.trans hk) c681
theorem tl_781 {X : Ctx_} {ret : Option FieldType} {d mc ms : Nat} {Q : Option AV → Mem → Prop} (ho : Ok_ X "KeyHallLaw" cL_law ret d mc ms Q) (hN : Nl_ X 7) {u : Mem} {x : Nat} {o0 : AV} {i k b : Int} {cu su : Nat} (hm : MF u (x + 34)) (hk : iv_ u (x + 34) 0 = k) (rk : rng k) (hko : kd_ u (x + 63) = 104) (hlo : ln_ u (x + 63) = 1) (hv : k = 0 → iv_ u (x + 63) 0 = (Int32.ofInt b).toInt) (hdp : 1 ≤ d) (hcu : cu ≤ mc) (hsu : su ≤ ms) (nx : Z X 1297 [some o0, some (aR x), some (aR (x + 34)), some (aR (x + 63)), some (aI i), none, none] [] u cu su) : Z X 781 [some o0, some (aR x), some (aR (x + 34)), some (aR (x + 63)), some (aI i), some (aI k), some (aI b)] [] u cu su := by
  have nx2 : Z X 809 [some o0, some (aR x), some (aR (x + 34)), some (aR (x + 63)), some (aI i), some (aI k), some (aI b)] [] u cu su := by
    refine z_goto (tgt := 1297) ho dL_law_809 (by decide) ?_
    refine z_wk ?_ nx
    exact ⟨rfl, rfl, rfl, rfl, rfl, trivial⟩
  refine z_aload_n ho dL_law_781 rfl ?_
  refine kX0_79 ho hN (c_thrown _ _ hm) dL_law_782 hm.1 hdp (Nat.le_of_ble_eq_true rfl) (by omega) (by omega) (fun x782 u782 h782 => ?_)
  obtain ⟨rfl, hr⟩ := h782
  refine z_iload ho dL_law_785 rfl ?_
  refine z_icmp_eq (tgt := 792) ho dL_law_787 (by decide) (by rw [hr, hk]; exact rk) rk (fun c787 => ?_) (fun c787 => ?_)
  · 
    refine z_iload ho dL_law_792 rfl ?_
    refine z_if_ne (tgt := 809) ho dL_law_794 (by decide) rk (fun c794 => ?_) (fun c794 => ?_)
    · exact nx2
    · 
      refine z_aload_n ho dL_law_797 rfl ?_
      refine z_iconst ho dL_law_798 ?_
      refine z_lald ho dL_law_799 hko (by omega) (by rw [hlo]; omega) ?_
      refine z_iload ho dL_law_800 rfl ?_
      refine z_i2l ho dL_law_802 ?_
      refine z_lcmp ho dL_law_803 (fun z803 rz803 hz803 => ?_)
      refine z_if_eq (tgt := 809) ho dL_law_804 (by decide) rz803 (fun c804 => ?_) (fun c804 => ?_)
      · exact nx2
      · refine absurd (hz803.mpr ?_) c804
        rw [hv c794]
        rfl
  · exact absurd (hr.trans hk) c787
theorem tl_837 {X : Ctx_} {ret : Option FieldType} {d mc ms : Nat} {Q : Option AV → Mem → Prop} (ho : Ok_ X "KeyHallLaw" cL_law ret d mc ms Q) (hN : Nl_ X 7) {u : Mem} {x : Nat} {o0 : AV} {i k b : Int} {cu su : Nat} (hm : MF u (x + 34)) (hk : iv_ u (x + 34) 0 = k) (rk : rng k) (hko : kd_ u (x + 63) = 104) (hlo : ln_ u (x + 63) = 1) (hv : k = 0 → iv_ u (x + 63) 0 = (Int32.ofInt b).toInt) (hdp : 1 ≤ d) (hcu : cu ≤ mc) (hsu : su ≤ ms) (nx : Z X 1297 [some o0, some (aR x), some (aR (x + 34)), some (aR (x + 63)), some (aI i), none, none] [] u cu su) : Z X 837 [some o0, some (aR x), some (aR (x + 34)), some (aR (x + 63)), some (aI i), some (aI k), some (aI b)] [] u cu su := by
  have nx2 : Z X 865 [some o0, some (aR x), some (aR (x + 34)), some (aR (x + 63)), some (aI i), some (aI k), some (aI b)] [] u cu su := by
    refine z_goto (tgt := 1297) ho dL_law_865 (by decide) ?_
    refine z_wk ?_ nx
    exact ⟨rfl, rfl, rfl, rfl, rfl, trivial⟩
  refine z_aload_n ho dL_law_837 rfl ?_
  refine kX0_79 ho hN (c_thrown _ _ hm) dL_law_838 hm.1 hdp (Nat.le_of_ble_eq_true rfl) (by omega) (by omega) (fun x838 u838 h838 => ?_)
  obtain ⟨rfl, hr⟩ := h838
  refine z_iload ho dL_law_841 rfl ?_
  refine z_icmp_eq (tgt := 848) ho dL_law_843 (by decide) (by rw [hr, hk]; exact rk) rk (fun c843 => ?_) (fun c843 => ?_)
  · 
    refine z_iload ho dL_law_848 rfl ?_
    refine z_if_ne (tgt := 865) ho dL_law_850 (by decide) rk (fun c850 => ?_) (fun c850 => ?_)
    · exact nx2
    · 
      refine z_aload_n ho dL_law_853 rfl ?_
      refine z_iconst ho dL_law_854 ?_
      refine z_lald ho dL_law_855 hko (by omega) (by rw [hlo]; omega) ?_
      refine z_iload ho dL_law_856 rfl ?_
      refine z_i2l ho dL_law_858 ?_
      refine z_lcmp ho dL_law_859 (fun z859 rz859 hz859 => ?_)
      refine z_if_eq (tgt := 865) ho dL_law_860 (by decide) rz859 (fun c860 => ?_) (fun c860 => ?_)
      · exact nx2
      · refine absurd (hz859.mpr ?_) c860
        rw [hv c850]
        rfl
  · exact absurd (hr.trans hk) c843
theorem tl_905 {X : Ctx_} {ret : Option FieldType} {d mc ms : Nat} {Q : Option AV → Mem → Prop} (ho : Ok_ X "KeyHallLaw" cL_law ret d mc ms Q) (hN : Nl_ X 7) {u : Mem} {x : Nat} {o0 : AV} {i k b : Int} {cu su : Nat} (hm : MF u (x + 34)) (hk : iv_ u (x + 34) 0 = k) (rk : rng k) (hko : kd_ u (x + 63) = 104) (hlo : ln_ u (x + 63) = 1) (hv : k = 0 → iv_ u (x + 63) 0 = (Int32.ofInt b).toInt) (hdp : 1 ≤ d) (hcu : cu ≤ mc) (hsu : su ≤ ms) (nx : Z X 1297 [some o0, some (aR x), some (aR (x + 34)), some (aR (x + 63)), some (aI i), none, none] [] u cu su) : Z X 905 [some o0, some (aR x), some (aR (x + 34)), some (aR (x + 63)), some (aI i), some (aI k), some (aI b)] [] u cu su := by
  have nx2 : Z X 933 [some o0, some (aR x), some (aR (x + 34)), some (aR (x + 63)), some (aI i), some (aI k), some (aI b)] [] u cu su := by
    refine z_goto (tgt := 1297) ho dL_law_933 (by decide) ?_
    refine z_wk ?_ nx
    exact ⟨rfl, rfl, rfl, rfl, rfl, trivial⟩
  refine z_aload_n ho dL_law_905 rfl ?_
  refine kX0_79 ho hN (c_thrown _ _ hm) dL_law_906 hm.1 hdp (Nat.le_of_ble_eq_true rfl) (by omega) (by omega) (fun x906 u906 h906 => ?_)
  obtain ⟨rfl, hr⟩ := h906
  refine z_iload ho dL_law_909 rfl ?_
  refine z_icmp_eq (tgt := 916) ho dL_law_911 (by decide) (by rw [hr, hk]; exact rk) rk (fun c911 => ?_) (fun c911 => ?_)
  · 
    refine z_iload ho dL_law_916 rfl ?_
    refine z_if_ne (tgt := 933) ho dL_law_918 (by decide) rk (fun c918 => ?_) (fun c918 => ?_)
    · exact nx2
    · 
      refine z_aload_n ho dL_law_921 rfl ?_
      refine z_iconst ho dL_law_922 ?_
      refine z_lald ho dL_law_923 hko (by omega) (by rw [hlo]; omega) ?_
      refine z_iload ho dL_law_924 rfl ?_
      refine z_i2l ho dL_law_926 ?_
      refine z_lcmp ho dL_law_927 (fun z927 rz927 hz927 => ?_)
      refine z_if_eq (tgt := 933) ho dL_law_928 (by decide) rz927 (fun c928 => ?_) (fun c928 => ?_)
      · exact nx2
      · refine absurd (hz927.mpr ?_) c928
        rw [hv c918]
        rfl
  · exact absurd (hr.trans hk) c911
theorem tl_961 {X : Ctx_} {ret : Option FieldType} {d mc ms : Nat} {Q : Option AV → Mem → Prop} (ho : Ok_ X "KeyHallLaw" cL_law ret d mc ms Q) (hN : Nl_ X 7) {u : Mem} {x : Nat} {o0 : AV} {i k b : Int} {cu su : Nat} (hm : MF u (x + 34)) (hk : iv_ u (x + 34) 0 = k) (rk : rng k) (hko : kd_ u (x + 63) = 104) (hlo : ln_ u (x + 63) = 1) (hv : k = 0 → iv_ u (x + 63) 0 = (Int32.ofInt b).toInt) (hdp : 1 ≤ d) (hcu : cu ≤ mc) (hsu : su ≤ ms) (nx : Z X 1297 [some o0, some (aR x), some (aR (x + 34)), some (aR (x + 63)), some (aI i), none, none] [] u cu su) : Z X 961 [some o0, some (aR x), some (aR (x + 34)), some (aR (x + 63)), some (aI i), some (aI k), some (aI b)] [] u cu su := by
  have nx2 : Z X 989 [some o0, some (aR x), some (aR (x + 34)), some (aR (x + 63)), some (aI i), some (aI k), some (aI b)] [] u cu su := by
    refine z_goto (tgt := 1297) ho dL_law_989 (by decide) ?_
    refine z_wk ?_ nx
    exact ⟨rfl, rfl, rfl, rfl, rfl, trivial⟩
  refine z_aload_n ho dL_law_961 rfl ?_
  refine kX0_79 ho hN (c_thrown _ _ hm) dL_law_962 hm.1 hdp (Nat.le_of_ble_eq_true rfl) (by omega) (by omega) (fun x962 u962 h962 => ?_)
  obtain ⟨rfl, hr⟩ := h962
  refine z_iload ho dL_law_965 rfl ?_
  refine z_icmp_eq (tgt := 972) ho dL_law_967 (by decide) (by rw [hr, hk]; exact rk) rk (fun c967 => ?_) (fun c967 => ?_)
  · 
    refine z_iload ho dL_law_972 rfl ?_
    refine z_if_ne (tgt := 989) ho dL_law_974 (by decide) rk (fun c974 => ?_) (fun c974 => ?_)
    · exact nx2
    · 
      refine z_aload_n ho dL_law_977 rfl ?_
      refine z_iconst ho dL_law_978 ?_
      refine z_lald ho dL_law_979 hko (by omega) (by rw [hlo]; omega) ?_
      refine z_iload ho dL_law_980 rfl ?_
      refine z_i2l ho dL_law_982 ?_
      refine z_lcmp ho dL_law_983 (fun z983 rz983 hz983 => ?_)
      refine z_if_eq (tgt := 989) ho dL_law_984 (by decide) rz983 (fun c984 => ?_) (fun c984 => ?_)
      · exact nx2
      · refine absurd (hz983.mpr ?_) c984
        rw [hv c974]
        rfl
  · exact absurd (hr.trans hk) c967
theorem tl_1017 {X : Ctx_} {ret : Option FieldType} {d mc ms : Nat} {Q : Option AV → Mem → Prop} (ho : Ok_ X "KeyHallLaw" cL_law ret d mc ms Q) (hN : Nl_ X 7) {u : Mem} {x : Nat} {o0 : AV} {i k b : Int} {cu su : Nat} (hm : MF u (x + 34)) (hk : iv_ u (x + 34) 0 = k) (rk : rng k) (hko : kd_ u (x + 63) = 104) (hlo : ln_ u (x + 63) = 1) (hv : k = 0 → iv_ u (x + 63) 0 = (Int32.ofInt b).toInt) (hdp : 1 ≤ d) (hcu : cu ≤ mc) (hsu : su ≤ ms) (nx : Z X 1297 [some o0, some (aR x), some (aR (x + 34)), some (aR (x + 63)), some (aI i), none, none] [] u cu su) : Z X 1017 [some o0, some (aR x), some (aR (x + 34)), some (aR (x + 63)), some (aI i), some (aI k), some (aI b)] [] u cu su := by
  have nx2 : Z X 1045 [some o0, some (aR x), some (aR (x + 34)), some (aR (x + 63)), some (aI i), some (aI k), some (aI b)] [] u cu su := by
    refine z_goto (tgt := 1297) ho dL_law_1045 (by decide) ?_
    refine z_wk ?_ nx
    exact ⟨rfl, rfl, rfl, rfl, rfl, trivial⟩
  refine z_aload_n ho dL_law_1017 rfl ?_
  refine kX0_79 ho hN (c_thrown _ _ hm) dL_law_1018 hm.1 hdp (Nat.le_of_ble_eq_true rfl) (by omega) (by omega) (fun x1018 u1018 h1018 => ?_)
  obtain ⟨rfl, hr⟩ := h1018
  refine z_iload ho dL_law_1021 rfl ?_
  refine z_icmp_eq (tgt := 1028) ho dL_law_1023 (by decide) (by rw [hr, hk]; exact rk) rk (fun c1023 => ?_) (fun c1023 => ?_)
  · 
    refine z_iload ho dL_law_1028 rfl ?_
    refine z_if_ne (tgt := 1045) ho dL_law_1030 (by decide) rk (fun c1030 => ?_) (fun c1030 => ?_)
    · exact nx2
    · 
      refine z_aload_n ho dL_law_1033 rfl ?_
      refine z_iconst ho dL_law_1034 ?_
      refine z_lald ho dL_law_1035 hko (by omega) (by rw [hlo]; omega) ?_
      refine z_iload ho dL_law_1036 rfl ?_
      refine z_i2l ho dL_law_1038 ?_
      refine z_lcmp ho dL_law_1039 (fun z1039 rz1039 hz1039 => ?_)
      refine z_if_eq (tgt := 1045) ho dL_law_1040 (by decide) rz1039 (fun c1040 => ?_) (fun c1040 => ?_)
      · exact nx2
      · refine absurd (hz1039.mpr ?_) c1040
        rw [hv c1030]
        rfl
  · exact absurd (hr.trans hk) c1023
theorem tl_1098 {X : Ctx_} {ret : Option FieldType} {d mc ms : Nat} {Q : Option AV → Mem → Prop} (ho : Ok_ X "KeyHallLaw" cL_law ret d mc ms Q) (hN : Nl_ X 7) {u : Mem} {x : Nat} {o0 : AV} {i k b : Int} {cu su : Nat} (hm : MF u (x + 34)) (hk : iv_ u (x + 34) 0 = k) (rk : rng k) (hko : kd_ u (x + 63) = 104) (hlo : ln_ u (x + 63) = 1) (hv : k = 0 → iv_ u (x + 63) 0 = (Int32.ofInt b).toInt) (hdp : 1 ≤ d) (hcu : cu ≤ mc) (hsu : su ≤ ms) (nx : Z X 1297 [some o0, some (aR x), some (aR (x + 34)), some (aR (x + 63)), some (aI i), none, none] [] u cu su) : Z X 1098 [some o0, some (aR x), some (aR (x + 34)), some (aR (x + 63)), some (aI i), some (aI k), some (aI b)] [] u cu su := by
  have nx2 : Z X 1126 [some o0, some (aR x), some (aR (x + 34)), some (aR (x + 63)), some (aI i), some (aI k), some (aI b)] [] u cu su := by
    refine z_goto (tgt := 1297) ho dL_law_1126 (by decide) ?_
    refine z_wk ?_ nx
    exact ⟨rfl, rfl, rfl, rfl, rfl, trivial⟩
  refine z_aload_n ho dL_law_1098 rfl ?_
  refine kX0_79 ho hN (c_thrown _ _ hm) dL_law_1099 hm.1 hdp (Nat.le_of_ble_eq_true rfl) (by omega) (by omega) (fun x1099 u1099 h1099 => ?_)
  obtain ⟨rfl, hr⟩ := h1099
  refine z_iload ho dL_law_1102 rfl ?_
  refine z_icmp_eq (tgt := 1109) ho dL_law_1104 (by decide) (by rw [hr, hk]; exact rk) rk (fun c1104 => ?_) (fun c1104 => ?_)
  · 
    refine z_iload ho dL_law_1109 rfl ?_
    refine z_if_ne (tgt := 1126) ho dL_law_1111 (by decide) rk (fun c1111 => ?_) (fun c1111 => ?_)
    · exact nx2
    · 
      refine z_aload_n ho dL_law_1114 rfl ?_
      refine z_iconst ho dL_law_1115 ?_
      refine z_lald ho dL_law_1116 hko (by omega) (by rw [hlo]; omega) ?_
      refine z_iload ho dL_law_1117 rfl ?_
      refine z_i2l ho dL_law_1119 ?_
      refine z_lcmp ho dL_law_1120 (fun z1120 rz1120 hz1120 => ?_)
      refine z_if_eq (tgt := 1126) ho dL_law_1121 (by decide) rz1120 (fun c1121 => ?_) (fun c1121 => ?_)
      · exact nx2
      · refine absurd (hz1120.mpr ?_) c1121
        rw [hv c1111]
        rfl
  · exact absurd (hr.trans hk) c1104
theorem tl_1166 {X : Ctx_} {ret : Option FieldType} {d mc ms : Nat} {Q : Option AV → Mem → Prop} (ho : Ok_ X "KeyHallLaw" cL_law ret d mc ms Q) (hN : Nl_ X 7) {u : Mem} {x : Nat} {o0 : AV} {i k b : Int} {cu su : Nat} (hm : MF u (x + 34)) (hk : iv_ u (x + 34) 0 = k) (rk : rng k) (hko : kd_ u (x + 63) = 104) (hlo : ln_ u (x + 63) = 1) (hv : k = 0 → iv_ u (x + 63) 0 = (Int32.ofInt b).toInt) (hdp : 1 ≤ d) (hcu : cu ≤ mc) (hsu : su ≤ ms) (nx : Z X 1297 [some o0, some (aR x), some (aR (x + 34)), some (aR (x + 63)), some (aI i), none, none] [] u cu su) : Z X 1166 [some o0, some (aR x), some (aR (x + 34)), some (aR (x + 63)), some (aI i), some (aI k), some (aI b)] [] u cu su := by
  have nx2 : Z X 1194 [some o0, some (aR x), some (aR (x + 34)), some (aR (x + 63)), some (aI i), some (aI k), some (aI b)] [] u cu su := by
    refine z_goto (tgt := 1297) ho dL_law_1194 (by decide) ?_
    refine z_wk ?_ nx
    exact ⟨rfl, rfl, rfl, rfl, rfl, trivial⟩
  refine z_aload_n ho dL_law_1166 rfl ?_
  refine kX0_79 ho hN (c_thrown _ _ hm) dL_law_1167 hm.1 hdp (Nat.le_of_ble_eq_true rfl) (by omega) (by omega) (fun x1167 u1167 h1167 => ?_)
  obtain ⟨rfl, hr⟩ := h1167
  refine z_iload ho dL_law_1170 rfl ?_
  refine z_icmp_eq (tgt := 1177) ho dL_law_1172 (by decide) (by rw [hr, hk]; exact rk) rk (fun c1172 => ?_) (fun c1172 => ?_)
  · 
    refine z_iload ho dL_law_1177 rfl ?_
    refine z_if_ne (tgt := 1194) ho dL_law_1179 (by decide) rk (fun c1179 => ?_) (fun c1179 => ?_)
    · exact nx2
    · 
      refine z_aload_n ho dL_law_1182 rfl ?_
      refine z_iconst ho dL_law_1183 ?_
      refine z_lald ho dL_law_1184 hko (by omega) (by rw [hlo]; omega) ?_
      refine z_iload ho dL_law_1185 rfl ?_
      refine z_i2l ho dL_law_1187 ?_
      refine z_lcmp ho dL_law_1188 (fun z1188 rz1188 hz1188 => ?_)
      refine z_if_eq (tgt := 1194) ho dL_law_1189 (by decide) rz1188 (fun c1189 => ?_) (fun c1189 => ?_)
      · exact nx2
      · refine absurd (hz1188.mpr ?_) c1189
        rw [hv c1179]
        rfl
  · exact absurd (hr.trans hk) c1172
