set_option maxRecDepth 100000
/-! ===== the methods of the law that call the hall ===== -/
theorem w_view (l : Launch) (u : Mem) {x o : Nat} {a b : Int} {dd mc ms : Nat} {q : Int → Mem → Prop} (hM : Mt_ l yX1_view cX1_view 6 (some .int) dd mc ms [aR x, aI a, aI b] u (qI q)) (hk : kd_ u x = 1) (hO : ∀ r v, q r v → kd_ v o = 104 ∧ ln_ v o = 1) : MtW_ l yX0_view cX0_view 5 (some .int) [(0, 10, 13, 13)] (dd + 1) mc ms [aR x, aI a, aI b, aR o] u (qI fun r v => r = 0 ∧ ∃ y w, q y w ∧ v = wI_ w o 0 (Int32.ofInt y).toInt) := by
  refine MtW_of (by decide) (Nat.le_of_ble_eq_true rfl) (fun X ho hH hX hN => ?_)
  subst hX
  show Z X 0 [some (aR x), some (aI a), some (aI b), some (aR o), none] [] u 0 0
  refine z_aload_n ho dX0_view_0 rfl ?_
  refine z_iconst ho dX0_view_1 ?_
  refine z_aload_n ho dX0_view_2 rfl ?_
  refine z_iload_n ho dX0_view_3 rfl ?_
  refine z_iload_n ho dX0_view_4 rfl ?_
  refine kX0_7 ho hN (hM) dX0_view_5 (by assumption) (Nat.le_refl _) (Nat.le_of_ble_eq_true rfl) (by omega) (by omega) (fun x5 u5 h5 => ?_)
  have hw := hO _ _ h5
  refine z_i2l ho dX0_view_8 ?_
  refine z_last ho dX0_view_9 rfl hw.1 (by omega) (by rw [hw.2]; omega) ?_
  refine z_goto (tgt := 17) ho dX0_view_10 (by decide) ?_
  refine z_iconst ho dX0_view_17 ?_
  refine r_I ho dX0_view_18 (by omega) (by omega) ?_
  exact ⟨rfl, _, _, h5, rfl⟩
theorem w_view_19 (l : Launch) (u : Mem) {x o : Nat} {a b : Int} {dd mc ms : Nat} {q : Nat → Mem → Prop} (hM : Th_ l yX1_view cX1_view 6 (some .int) dd mc ms [aR x, aI a, aI b] u q) (hk : kd_ u x = 1) (hK : ∀ r v, q r v → kd_ v r = 19) : MtW_ l yX0_view cX0_view 5 (some .int) [(0, 10, 13, 13)] (dd + 1) mc ms [aR x, aI a, aI b, aR o] u (qI fun r v => r = 1 ∧ ∃ y, q y v) := by
  refine MtW_of (by decide) (Nat.le_of_ble_eq_true rfl) (fun X ho hH hX hN => ?_)
  subst hX
  show Z X 0 [some (aR x), some (aI a), some (aI b), some (aR o), none] [] u 0 0
  refine z_aload_n ho dX0_view_0 rfl ?_
  refine z_iconst ho dX0_view_1 ?_
  refine z_aload_n ho dX0_view_2 rfl ?_
  refine z_iload_n ho dX0_view_3 rfl ?_
  refine z_iload_n ho dX0_view_4 rfl ?_
  refine hX0_7_19 ho hH hN (hM) dX0_view_5 (by assumption) (hK) (Nat.le_refl _) (Nat.le_of_ble_eq_true rfl) (by omega) (by omega) (fun x5 u5 h5 => ?_)
  refine z_astore ho dX0_view_13 (Nat.le_of_ble_eq_true rfl) rfl ?_
  refine z_iconst ho dX0_view_15 ?_
  refine r_I ho dX0_view_16 (by omega) (by omega) ?_
  exact ⟨rfl, _, h5⟩
theorem w_put (l : Launch) (u : Mem) {x o : Nat} {a b : Int} {dd mc ms : Nat} {q : Int → Mem → Prop} (hM : Mt_ l yX1_put cX1_put 7 (some .int) dd mc ms [aR x, aI a, aI b] u (qI q)) (hk : kd_ u x = 1) (hO : ∀ r v, q r v → kd_ v o = 104 ∧ ln_ v o = 1) : MtW_ l yX0_put cX0_put 5 (some .int) [(0, 10, 13, 13), (0, 10, 17, 18), (0, 10, 21, 20)] (dd + 1) mc ms [aR x, aI a, aI b, aR o] u (qI fun r v => r = 0 ∧ ∃ y w, q y w ∧ v = wI_ w o 0 (Int32.ofInt y).toInt) := by
  refine MtW_of (by decide) (Nat.le_of_ble_eq_true rfl) (fun X ho hH hX hN => ?_)
  subst hX
  show Z X 0 [some (aR x), some (aI a), some (aI b), some (aR o), none] [] u 0 0
  refine z_aload_n ho dX0_put_0 rfl ?_
  refine z_iconst ho dX0_put_1 ?_
  refine z_aload_n ho dX0_put_2 rfl ?_
  refine z_iload_n ho dX0_put_3 rfl ?_
  refine z_iload_n ho dX0_put_4 rfl ?_
  refine kX0_15 ho hN (hM) dX0_put_5 (by assumption) (Nat.le_refl _) (Nat.le_of_ble_eq_true rfl) (by omega) (by omega) (fun x5 u5 h5 => ?_)
  have hw := hO _ _ h5
  refine z_i2l ho dX0_put_8 ?_
  refine z_last ho dX0_put_9 rfl hw.1 (by omega) (by rw [hw.2]; omega) ?_
  refine z_goto (tgt := 25) ho dX0_put_10 (by decide) ?_
  refine z_iconst ho dX0_put_25 ?_
  refine r_I ho dX0_put_26 (by omega) (by omega) ?_
  exact ⟨rfl, _, _, h5, rfl⟩
theorem w_put_19 (l : Launch) (u : Mem) {x o : Nat} {a b : Int} {dd mc ms : Nat} {q : Nat → Mem → Prop} (hM : Th_ l yX1_put cX1_put 7 (some .int) dd mc ms [aR x, aI a, aI b] u q) (hk : kd_ u x = 1) (hK : ∀ r v, q r v → kd_ v r = 19) : MtW_ l yX0_put cX0_put 5 (some .int) [(0, 10, 13, 13), (0, 10, 17, 18), (0, 10, 21, 20)] (dd + 1) mc ms [aR x, aI a, aI b, aR o] u (qI fun r v => r = 1 ∧ ∃ y, q y v) := by
  refine MtW_of (by decide) (Nat.le_of_ble_eq_true rfl) (fun X ho hH hX hN => ?_)
  subst hX
  show Z X 0 [some (aR x), some (aI a), some (aI b), some (aR o), none] [] u 0 0
  refine z_aload_n ho dX0_put_0 rfl ?_
  refine z_iconst ho dX0_put_1 ?_
  refine z_aload_n ho dX0_put_2 rfl ?_
  refine z_iload_n ho dX0_put_3 rfl ?_
  refine z_iload_n ho dX0_put_4 rfl ?_
  refine hX0_15_19 ho hH hN (hM) dX0_put_5 (by assumption) (hK) (Nat.le_refl _) (Nat.le_of_ble_eq_true rfl) (by omega) (by omega) (fun x5 u5 h5 => ?_)
  refine z_astore ho dX0_put_13 (Nat.le_of_ble_eq_true rfl) rfl ?_
  refine z_iconst ho dX0_put_15 ?_
  refine r_I ho dX0_put_16 (by omega) (by omega) ?_
  exact ⟨rfl, _, h5⟩
theorem w_put_20 (l : Launch) (u : Mem) {x o : Nat} {a b : Int} {dd mc ms : Nat} {q : Nat → Mem → Prop} (hM : Th_ l yX1_put cX1_put 7 (some .int) dd mc ms [aR x, aI a, aI b] u q) (hk : kd_ u x = 1) (hK : ∀ r v, q r v → kd_ v r = 20) : MtW_ l yX0_put cX0_put 5 (some .int) [(0, 10, 13, 13), (0, 10, 17, 18), (0, 10, 21, 20)] (dd + 1) mc ms [aR x, aI a, aI b, aR o] u (qI fun r v => r = 2 ∧ ∃ y, q y v) := by
  refine MtW_of (by decide) (Nat.le_of_ble_eq_true rfl) (fun X ho hH hX hN => ?_)
  subst hX
  show Z X 0 [some (aR x), some (aI a), some (aI b), some (aR o), none] [] u 0 0
  refine z_aload_n ho dX0_put_0 rfl ?_
  refine z_iconst ho dX0_put_1 ?_
  refine z_aload_n ho dX0_put_2 rfl ?_
  refine z_iload_n ho dX0_put_3 rfl ?_
  refine z_iload_n ho dX0_put_4 rfl ?_
  refine hX0_15_20 ho hH hN (hM) dX0_put_5 (by assumption) (hK) (Nat.le_refl _) (Nat.le_of_ble_eq_true rfl) (by omega) (by omega) (fun x5 u5 h5 => ?_)
  refine z_astore ho dX0_put_17 (Nat.le_of_ble_eq_true rfl) rfl ?_
  refine z_iconst ho dX0_put_19 ?_
  refine r_I ho dX0_put_20 (by omega) (by omega) ?_
  exact ⟨rfl, _, h5⟩
theorem w_put_21 (l : Launch) (u : Mem) {x o : Nat} {a b : Int} {dd mc ms : Nat} {q : Nat → Mem → Prop} (hM : Th_ l yX1_put cX1_put 7 (some .int) dd mc ms [aR x, aI a, aI b] u q) (hk : kd_ u x = 1) (hK : ∀ r v, q r v → kd_ v r = 21) : MtW_ l yX0_put cX0_put 5 (some .int) [(0, 10, 13, 13), (0, 10, 17, 18), (0, 10, 21, 20)] (dd + 1) mc ms [aR x, aI a, aI b, aR o] u (qI fun r v => r = 3 ∧ ∃ y, q y v) := by
  refine MtW_of (by decide) (Nat.le_of_ble_eq_true rfl) (fun X ho hH hX hN => ?_)
  subst hX
  show Z X 0 [some (aR x), some (aI a), some (aI b), some (aR o), none] [] u 0 0
  refine z_aload_n ho dX0_put_0 rfl ?_
  refine z_iconst ho dX0_put_1 ?_
  refine z_aload_n ho dX0_put_2 rfl ?_
  refine z_iload_n ho dX0_put_3 rfl ?_
  refine z_iload_n ho dX0_put_4 rfl ?_
  refine hX0_15_21 ho hH hN (hM) dX0_put_5 (by assumption) (hK) (Nat.le_refl _) (Nat.le_of_ble_eq_true rfl) (by omega) (by omega) (fun x5 u5 h5 => ?_)
  refine z_astore ho dX0_put_21 (Nat.le_of_ble_eq_true rfl) rfl ?_
  refine z_iconst ho dX0_put_23 ?_
  refine r_I ho dX0_put_24 (by omega) (by omega) ?_
  exact ⟨rfl, _, h5⟩
theorem w_get (l : Launch) (u : Mem) {x o : Nat} {a : Int} {dd mc ms : Nat} {q : Int → Mem → Prop} (hM : Mt_ l yX1_get cX1_get 3 (some .int) dd mc ms [aR x, aI a] u (qI q)) (hk : kd_ u x = 1) (hO : ∀ r v, q r v → kd_ v o = 104 ∧ ln_ v o = 1) : MtW_ l yX0_get cX0_get 4 (some .int) [(0, 9, 12, 13)] (dd + 1) mc ms [aR x, aI a, aR o] u (qI fun r v => r = 0 ∧ ∃ y w, q y w ∧ v = wI_ w o 0 (Int32.ofInt y).toInt) := by
  refine MtW_of (by decide) (Nat.le_of_ble_eq_true rfl) (fun X ho hH hX hN => ?_)
  subst hX
  show Z X 0 [some (aR x), some (aI a), some (aR o), none] [] u 0 0
  refine z_aload_n ho dX0_get_0 rfl ?_
  refine z_iconst ho dX0_get_1 ?_
  refine z_aload_n ho dX0_get_2 rfl ?_
  refine z_iload_n ho dX0_get_3 rfl ?_
  refine kX0_22 ho hN (hM) dX0_get_4 (by assumption) (Nat.le_refl _) (Nat.le_of_ble_eq_true rfl) (by omega) (by omega) (fun x4 u4 h4 => ?_)
  have hw := hO _ _ h4
  refine z_i2l ho dX0_get_7 ?_
  refine z_last ho dX0_get_8 rfl hw.1 (by omega) (by rw [hw.2]; omega) ?_
  refine z_goto (tgt := 15) ho dX0_get_9 (by decide) ?_
  refine z_iconst ho dX0_get_15 ?_
  refine r_I ho dX0_get_16 (by omega) (by omega) ?_
  exact ⟨rfl, _, _, h4, rfl⟩
theorem w_get_19 (l : Launch) (u : Mem) {x o : Nat} {a : Int} {dd mc ms : Nat} {q : Nat → Mem → Prop} (hM : Th_ l yX1_get cX1_get 3 (some .int) dd mc ms [aR x, aI a] u q) (hk : kd_ u x = 1) (hK : ∀ r v, q r v → kd_ v r = 19) : MtW_ l yX0_get cX0_get 4 (some .int) [(0, 9, 12, 13)] (dd + 1) mc ms [aR x, aI a, aR o] u (qI fun r v => r = 1 ∧ ∃ y, q y v) := by
  refine MtW_of (by decide) (Nat.le_of_ble_eq_true rfl) (fun X ho hH hX hN => ?_)
  subst hX
  show Z X 0 [some (aR x), some (aI a), some (aR o), none] [] u 0 0
  refine z_aload_n ho dX0_get_0 rfl ?_
  refine z_iconst ho dX0_get_1 ?_
  refine z_aload_n ho dX0_get_2 rfl ?_
  refine z_iload_n ho dX0_get_3 rfl ?_
  refine hX0_22_19 ho hH hN (hM) dX0_get_4 (by assumption) (hK) (Nat.le_refl _) (Nat.le_of_ble_eq_true rfl) (by omega) (by omega) (fun x4 u4 h4 => ?_)
  refine z_astore_n ho dX0_get_12 (Nat.le_of_ble_eq_true rfl) rfl ?_
  refine z_iconst ho dX0_get_13 ?_
  refine r_I ho dX0_get_14 (by omega) (by omega) ?_
  exact ⟨rfl, _, h4⟩
theorem w_remove (l : Launch) (u : Mem) {x o : Nat} {a : Int} {dd mc ms : Nat} {q : Int → Mem → Prop} (hM : Mt_ l yX1_remove cX1_remove 4 (some .int) dd mc ms [aR x, aI a] u (qI q)) (hk : kd_ u x = 1) (hO : ∀ r v, q r v → kd_ v o = 104 ∧ ln_ v o = 1) : MtW_ l yX0_remove cX0_remove 4 (some .int) [(0, 9, 12, 13)] (dd + 1) mc ms [aR x, aI a, aR o] u (qI fun r v => r = 0 ∧ ∃ y w, q y w ∧ v = wI_ w o 0 (Int32.ofInt y).toInt) := by
  refine MtW_of (by decide) (Nat.le_of_ble_eq_true rfl) (fun X ho hH hX hN => ?_)
  subst hX
  show Z X 0 [some (aR x), some (aI a), some (aR o), none] [] u 0 0
  refine z_aload_n ho dX0_remove_0 rfl ?_
  refine z_iconst ho dX0_remove_1 ?_
  refine z_aload_n ho dX0_remove_2 rfl ?_
  refine z_iload_n ho dX0_remove_3 rfl ?_
  refine kX0_26 ho hN (hM) dX0_remove_4 (by assumption) (Nat.le_refl _) (Nat.le_of_ble_eq_true rfl) (by omega) (by omega) (fun x4 u4 h4 => ?_)
  have hw := hO _ _ h4
  refine z_i2l ho dX0_remove_7 ?_
  refine z_last ho dX0_remove_8 rfl hw.1 (by omega) (by rw [hw.2]; omega) ?_
  refine z_goto (tgt := 15) ho dX0_remove_9 (by decide) ?_
  refine z_iconst ho dX0_remove_15 ?_
  refine r_I ho dX0_remove_16 (by omega) (by omega) ?_
  exact ⟨rfl, _, _, h4, rfl⟩
theorem w_remove_19 (l : Launch) (u : Mem) {x o : Nat} {a : Int} {dd mc ms : Nat} {q : Nat → Mem → Prop} (hM : Th_ l yX1_remove cX1_remove 4 (some .int) dd mc ms [aR x, aI a] u q) (hk : kd_ u x = 1) (hK : ∀ r v, q r v → kd_ v r = 19) : MtW_ l yX0_remove cX0_remove 4 (some .int) [(0, 9, 12, 13)] (dd + 1) mc ms [aR x, aI a, aR o] u (qI fun r v => r = 1 ∧ ∃ y, q y v) := by
  refine MtW_of (by decide) (Nat.le_of_ble_eq_true rfl) (fun X ho hH hX hN => ?_)
  subst hX
  show Z X 0 [some (aR x), some (aI a), some (aR o), none] [] u 0 0
  refine z_aload_n ho dX0_remove_0 rfl ?_
  refine z_iconst ho dX0_remove_1 ?_
  refine z_aload_n ho dX0_remove_2 rfl ?_
  refine z_iload_n ho dX0_remove_3 rfl ?_
  refine hX0_26_19 ho hH hN (hM) dX0_remove_4 (by assumption) (hK) (Nat.le_refl _) (Nat.le_of_ble_eq_true rfl) (by omega) (by omega) (fun x4 u4 h4 => ?_)
  refine z_astore_n ho dX0_remove_12 (Nat.le_of_ble_eq_true rfl) rfl ?_
  refine z_iconst ho dX0_remove_13 ?_
  refine r_I ho dX0_remove_14 (by omega) (by omega) ?_
  exact ⟨rfl, _, h4⟩
theorem w_find (l : Launch) (u : Mem) {x o : Nat} {a b : Int} {dd mc ms : Nat} {q : Int → Mem → Prop} (hM : Mt_ l yX1_find cX1_find 5 (some .int) dd mc ms [aR x, aI a, aI b] u (qI q)) (hk : kd_ u x = 1) (hO : ∀ r v, q r v → kd_ v o = 104 ∧ ln_ v o = 1) : MtW_ l yX0_find cX0_find 5 (some .int) [(0, 10, 13, 13), (0, 10, 17, 32)] (dd + 1) mc ms [aR x, aI a, aI b, aR o] u (qI fun r v => r = 0 ∧ ∃ y w, q y w ∧ v = wI_ w o 0 (Int32.ofInt y).toInt) := by
  refine MtW_of (by decide) (Nat.le_of_ble_eq_true rfl) (fun X ho hH hX hN => ?_)
  subst hX
  show Z X 0 [some (aR x), some (aI a), some (aI b), some (aR o), none] [] u 0 0
  refine z_aload_n ho dX0_find_0 rfl ?_
  refine z_iconst ho dX0_find_1 ?_
  refine z_aload_n ho dX0_find_2 rfl ?_
  refine z_iload_n ho dX0_find_3 rfl ?_
  refine z_iload_n ho dX0_find_4 rfl ?_
  refine kX0_29 ho hN (hM) dX0_find_5 (by assumption) (Nat.le_refl _) (Nat.le_of_ble_eq_true rfl) (by omega) (by omega) (fun x5 u5 h5 => ?_)
  have hw := hO _ _ h5
  refine z_i2l ho dX0_find_8 ?_
  refine z_last ho dX0_find_9 rfl hw.1 (by omega) (by rw [hw.2]; omega) ?_
  refine z_goto (tgt := 21) ho dX0_find_10 (by decide) ?_
  refine z_iconst ho dX0_find_21 ?_
  refine r_I ho dX0_find_22 (by omega) (by omega) ?_
  exact ⟨rfl, _, _, h5, rfl⟩
theorem w_find_19 (l : Launch) (u : Mem) {x o : Nat} {a b : Int} {dd mc ms : Nat} {q : Nat → Mem → Prop} (hM : Th_ l yX1_find cX1_find 5 (some .int) dd mc ms [aR x, aI a, aI b] u q) (hk : kd_ u x = 1) (hK : ∀ r v, q r v → kd_ v r = 19) : MtW_ l yX0_find cX0_find 5 (some .int) [(0, 10, 13, 13), (0, 10, 17, 32)] (dd + 1) mc ms [aR x, aI a, aI b, aR o] u (qI fun r v => r = 1 ∧ ∃ y, q y v) := by
  refine MtW_of (by decide) (Nat.le_of_ble_eq_true rfl) (fun X ho hH hX hN => ?_)
  subst hX
  show Z X 0 [some (aR x), some (aI a), some (aI b), some (aR o), none] [] u 0 0
  refine z_aload_n ho dX0_find_0 rfl ?_
  refine z_iconst ho dX0_find_1 ?_
  refine z_aload_n ho dX0_find_2 rfl ?_
  refine z_iload_n ho dX0_find_3 rfl ?_
  refine z_iload_n ho dX0_find_4 rfl ?_
  refine hX0_29_19 ho hH hN (hM) dX0_find_5 (by assumption) (hK) (Nat.le_refl _) (Nat.le_of_ble_eq_true rfl) (by omega) (by omega) (fun x5 u5 h5 => ?_)
  refine z_astore ho dX0_find_13 (Nat.le_of_ble_eq_true rfl) rfl ?_
  refine z_iconst ho dX0_find_15 ?_
  refine r_I ho dX0_find_16 (by omega) (by omega) ?_
  exact ⟨rfl, _, h5⟩
theorem w_find_22 (l : Launch) (u : Mem) {x o : Nat} {a b : Int} {dd mc ms : Nat} {q : Nat → Mem → Prop} (hM : Th_ l yX1_find cX1_find 5 (some .int) dd mc ms [aR x, aI a, aI b] u q) (hk : kd_ u x = 1) (hK : ∀ r v, q r v → kd_ v r = 22) : MtW_ l yX0_find cX0_find 5 (some .int) [(0, 10, 13, 13), (0, 10, 17, 32)] (dd + 1) mc ms [aR x, aI a, aI b, aR o] u (qI fun r v => r = 2 ∧ ∃ y, q y v) := by
  refine MtW_of (by decide) (Nat.le_of_ble_eq_true rfl) (fun X ho hH hX hN => ?_)
  subst hX
  show Z X 0 [some (aR x), some (aI a), some (aI b), some (aR o), none] [] u 0 0
  refine z_aload_n ho dX0_find_0 rfl ?_
  refine z_iconst ho dX0_find_1 ?_
  refine z_aload_n ho dX0_find_2 rfl ?_
  refine z_iload_n ho dX0_find_3 rfl ?_
  refine z_iload_n ho dX0_find_4 rfl ?_
  refine hX0_29_22 ho hH hN (hM) dX0_find_5 (by assumption) (hK) (Nat.le_refl _) (Nat.le_of_ble_eq_true rfl) (by omega) (by omega) (fun x5 u5 h5 => ?_)
  refine z_astore ho dX0_find_17 (Nat.le_of_ble_eq_true rfl) rfl ?_
  refine z_iconst ho dX0_find_19 ?_
  refine r_I ho dX0_find_20 (by omega) (by omega) ?_
  exact ⟨rfl, _, h5⟩
theorem w_at (l : Launch) (u : Mem) {x o : Nat} {a b : Int} {dd mc ms : Nat} {q : Int → Mem → Prop} (hM : Mt_ l yX1_at cX1_at 6 (some .int) dd mc ms [aR x, aI a, aI b] u (qI q)) (hk : kd_ u x = 1) (hO : ∀ r v, q r v → kd_ v o = 104 ∧ ln_ v o = 1) : MtW_ l yX0_at cX0_at 5 (some .int) [(0, 10, 13, 13), (0, 10, 17, 32)] (dd + 1) mc ms [aR x, aI a, aI b, aR o] u (qI fun r v => r = 0 ∧ ∃ y w, q y w ∧ v = wI_ w o 0 (Int32.ofInt y).toInt) := by
  refine MtW_of (by decide) (Nat.le_of_ble_eq_true rfl) (fun X ho hH hX hN => ?_)
  subst hX
  show Z X 0 [some (aR x), some (aI a), some (aI b), some (aR o), none] [] u 0 0
  refine z_aload_n ho dX0_at_0 rfl ?_
  refine z_iconst ho dX0_at_1 ?_
  refine z_aload_n ho dX0_at_2 rfl ?_
  refine z_iload_n ho dX0_at_3 rfl ?_
  refine z_iload_n ho dX0_at_4 rfl ?_
  refine kX0_34 ho hN (hM) dX0_at_5 (by assumption) (Nat.le_refl _) (Nat.le_of_ble_eq_true rfl) (by omega) (by omega) (fun x5 u5 h5 => ?_)
  have hw := hO _ _ h5
  refine z_i2l ho dX0_at_8 ?_
  refine z_last ho dX0_at_9 rfl hw.1 (by omega) (by rw [hw.2]; omega) ?_
  refine z_goto (tgt := 21) ho dX0_at_10 (by decide) ?_
  refine z_iconst ho dX0_at_21 ?_
  refine r_I ho dX0_at_22 (by omega) (by omega) ?_
  exact ⟨rfl, _, _, h5, rfl⟩
theorem w_at_19 (l : Launch) (u : Mem) {x o : Nat} {a b : Int} {dd mc ms : Nat} {q : Nat → Mem → Prop} (hM : Th_ l yX1_at cX1_at 6 (some .int) dd mc ms [aR x, aI a, aI b] u q) (hk : kd_ u x = 1) (hK : ∀ r v, q r v → kd_ v r = 19) : MtW_ l yX0_at cX0_at 5 (some .int) [(0, 10, 13, 13), (0, 10, 17, 32)] (dd + 1) mc ms [aR x, aI a, aI b, aR o] u (qI fun r v => r = 1 ∧ ∃ y, q y v) := by
  refine MtW_of (by decide) (Nat.le_of_ble_eq_true rfl) (fun X ho hH hX hN => ?_)
  subst hX
  show Z X 0 [some (aR x), some (aI a), some (aI b), some (aR o), none] [] u 0 0
  refine z_aload_n ho dX0_at_0 rfl ?_
  refine z_iconst ho dX0_at_1 ?_
  refine z_aload_n ho dX0_at_2 rfl ?_
  refine z_iload_n ho dX0_at_3 rfl ?_
  refine z_iload_n ho dX0_at_4 rfl ?_
  refine hX0_34_19 ho hH hN (hM) dX0_at_5 (by assumption) (hK) (Nat.le_refl _) (Nat.le_of_ble_eq_true rfl) (by omega) (by omega) (fun x5 u5 h5 => ?_)
  refine z_astore ho dX0_at_13 (Nat.le_of_ble_eq_true rfl) rfl ?_
  refine z_iconst ho dX0_at_15 ?_
  refine r_I ho dX0_at_16 (by omega) (by omega) ?_
  exact ⟨rfl, _, h5⟩
theorem w_at_22 (l : Launch) (u : Mem) {x o : Nat} {a b : Int} {dd mc ms : Nat} {q : Nat → Mem → Prop} (hM : Th_ l yX1_at cX1_at 6 (some .int) dd mc ms [aR x, aI a, aI b] u q) (hk : kd_ u x = 1) (hK : ∀ r v, q r v → kd_ v r = 22) : MtW_ l yX0_at cX0_at 5 (some .int) [(0, 10, 13, 13), (0, 10, 17, 32)] (dd + 1) mc ms [aR x, aI a, aI b, aR o] u (qI fun r v => r = 2 ∧ ∃ y, q y v) := by
  refine MtW_of (by decide) (Nat.le_of_ble_eq_true rfl) (fun X ho hH hX hN => ?_)
  subst hX
  show Z X 0 [some (aR x), some (aI a), some (aI b), some (aR o), none] [] u 0 0
  refine z_aload_n ho dX0_at_0 rfl ?_
  refine z_iconst ho dX0_at_1 ?_
  refine z_aload_n ho dX0_at_2 rfl ?_
  refine z_iload_n ho dX0_at_3 rfl ?_
  refine z_iload_n ho dX0_at_4 rfl ?_
  refine hX0_34_22 ho hH hN (hM) dX0_at_5 (by assumption) (hK) (Nat.le_refl _) (Nat.le_of_ble_eq_true rfl) (by omega) (by omega) (fun x5 u5 h5 => ?_)
  refine z_astore ho dX0_at_17 (Nat.le_of_ble_eq_true rfl) rfl ?_
  refine z_iconst ho dX0_at_19 ?_
  refine r_I ho dX0_at_20 (by omega) (by omega) ?_
  exact ⟨rfl, _, h5⟩
theorem w_poll (l : Launch) (u : Mem) {x o : Nat} {a b : Int} {dd mc ms : Nat} {q : Int → Mem → Prop} (hM : Mt_ l yX1_poll cX1_poll 6 (some .int) dd mc ms [aR x, aI a, aI b] u (qI q)) (hk : kd_ u x = 1) (hO : ∀ r v, q r v → kd_ v o = 104 ∧ ln_ v o = 1) : MtW_ l yX0_poll cX0_poll 5 (some .int) [(0, 10, 13, 13), (0, 10, 17, 32)] (dd + 1) mc ms [aR x, aI a, aI b, aR o] u (qI fun r v => r = 0 ∧ ∃ y w, q y w ∧ v = wI_ w o 0 (Int32.ofInt y).toInt) := by
  refine MtW_of (by decide) (Nat.le_of_ble_eq_true rfl) (fun X ho hH hX hN => ?_)
  subst hX
  show Z X 0 [some (aR x), some (aI a), some (aI b), some (aR o), none] [] u 0 0
  refine z_aload_n ho dX0_poll_0 rfl ?_
  refine z_iconst ho dX0_poll_1 ?_
  refine z_aload_n ho dX0_poll_2 rfl ?_
  refine z_iload_n ho dX0_poll_3 rfl ?_
  refine z_iload_n ho dX0_poll_4 rfl ?_
  refine kX0_37 ho hN (hM) dX0_poll_5 (by assumption) (Nat.le_refl _) (Nat.le_of_ble_eq_true rfl) (by omega) (by omega) (fun x5 u5 h5 => ?_)
  have hw := hO _ _ h5
  refine z_i2l ho dX0_poll_8 ?_
  refine z_last ho dX0_poll_9 rfl hw.1 (by omega) (by rw [hw.2]; omega) ?_
  refine z_goto (tgt := 21) ho dX0_poll_10 (by decide) ?_
  refine z_iconst ho dX0_poll_21 ?_
  refine r_I ho dX0_poll_22 (by omega) (by omega) ?_
  exact ⟨rfl, _, _, h5, rfl⟩
theorem w_poll_19 (l : Launch) (u : Mem) {x o : Nat} {a b : Int} {dd mc ms : Nat} {q : Nat → Mem → Prop} (hM : Th_ l yX1_poll cX1_poll 6 (some .int) dd mc ms [aR x, aI a, aI b] u q) (hk : kd_ u x = 1) (hK : ∀ r v, q r v → kd_ v r = 19) : MtW_ l yX0_poll cX0_poll 5 (some .int) [(0, 10, 13, 13), (0, 10, 17, 32)] (dd + 1) mc ms [aR x, aI a, aI b, aR o] u (qI fun r v => r = 1 ∧ ∃ y, q y v) := by
  refine MtW_of (by decide) (Nat.le_of_ble_eq_true rfl) (fun X ho hH hX hN => ?_)
  subst hX
  show Z X 0 [some (aR x), some (aI a), some (aI b), some (aR o), none] [] u 0 0
  refine z_aload_n ho dX0_poll_0 rfl ?_
  refine z_iconst ho dX0_poll_1 ?_
  refine z_aload_n ho dX0_poll_2 rfl ?_
  refine z_iload_n ho dX0_poll_3 rfl ?_
  refine z_iload_n ho dX0_poll_4 rfl ?_
  refine hX0_37_19 ho hH hN (hM) dX0_poll_5 (by assumption) (hK) (Nat.le_refl _) (Nat.le_of_ble_eq_true rfl) (by omega) (by omega) (fun x5 u5 h5 => ?_)
  refine z_astore ho dX0_poll_13 (Nat.le_of_ble_eq_true rfl) rfl ?_
  refine z_iconst ho dX0_poll_15 ?_
  refine r_I ho dX0_poll_16 (by omega) (by omega) ?_
  exact ⟨rfl, _, h5⟩
theorem w_poll_22 (l : Launch) (u : Mem) {x o : Nat} {a b : Int} {dd mc ms : Nat} {q : Nat → Mem → Prop} (hM : Th_ l yX1_poll cX1_poll 6 (some .int) dd mc ms [aR x, aI a, aI b] u q) (hk : kd_ u x = 1) (hK : ∀ r v, q r v → kd_ v r = 22) : MtW_ l yX0_poll cX0_poll 5 (some .int) [(0, 10, 13, 13), (0, 10, 17, 32)] (dd + 1) mc ms [aR x, aI a, aI b, aR o] u (qI fun r v => r = 2 ∧ ∃ y, q y v) := by
  refine MtW_of (by decide) (Nat.le_of_ble_eq_true rfl) (fun X ho hH hX hN => ?_)
  subst hX
  show Z X 0 [some (aR x), some (aI a), some (aI b), some (aR o), none] [] u 0 0
  refine z_aload_n ho dX0_poll_0 rfl ?_
  refine z_iconst ho dX0_poll_1 ?_
  refine z_aload_n ho dX0_poll_2 rfl ?_
  refine z_iload_n ho dX0_poll_3 rfl ?_
  refine z_iload_n ho dX0_poll_4 rfl ?_
  refine hX0_37_22 ho hH hN (hM) dX0_poll_5 (by assumption) (hK) (Nat.le_refl _) (Nat.le_of_ble_eq_true rfl) (by omega) (by omega) (fun x5 u5 h5 => ?_)
  refine z_astore ho dX0_poll_17 (Nat.le_of_ble_eq_true rfl) rfl ?_
  refine z_iconst ho dX0_poll_19 ?_
  refine r_I ho dX0_poll_20 (by omega) (by omega) ?_
  exact ⟨rfl, _, h5⟩
theorem w_next (l : Launch) (u : Mem) {x o : Nat} {a : Int} {dd mc ms : Nat} {q : Int → Mem → Prop} (hM : Mt_ l yX1_next cX1_next 5 (some .int) dd mc ms [aR x, aI a] u (qI q)) (hk : kd_ u x = 1) (hO : ∀ r v, q r v → kd_ v o = 104 ∧ ln_ v o = 1) : MtW_ l yX0_next cX0_next 4 (some .int) [(0, 9, 12, 13), (0, 9, 15, 20), (0, 9, 18, 32)] (dd + 1) mc ms [aR x, aI a, aR o] u (qI fun r v => r = 0 ∧ ∃ y w, q y w ∧ v = wI_ w o 0 (Int32.ofInt y).toInt) := by
  refine MtW_of (by decide) (Nat.le_of_ble_eq_true rfl) (fun X ho hH hX hN => ?_)
  subst hX
  show Z X 0 [some (aR x), some (aI a), some (aR o), none] [] u 0 0
  refine z_aload_n ho dX0_next_0 rfl ?_
  refine z_iconst ho dX0_next_1 ?_
  refine z_aload_n ho dX0_next_2 rfl ?_
  refine z_iload_n ho dX0_next_3 rfl ?_
  refine kX0_41 ho hN (hM) dX0_next_4 (by assumption) (Nat.le_refl _) (Nat.le_of_ble_eq_true rfl) (by omega) (by omega) (fun x4 u4 h4 => ?_)
  have hw := hO _ _ h4
  refine z_i2l ho dX0_next_7 ?_
  refine z_last ho dX0_next_8 rfl hw.1 (by omega) (by rw [hw.2]; omega) ?_
  refine z_goto (tgt := 21) ho dX0_next_9 (by decide) ?_
  refine z_iconst ho dX0_next_21 ?_
  refine r_I ho dX0_next_22 (by omega) (by omega) ?_
  exact ⟨rfl, _, _, h4, rfl⟩
theorem w_next_19 (l : Launch) (u : Mem) {x o : Nat} {a : Int} {dd mc ms : Nat} {q : Nat → Mem → Prop} (hM : Th_ l yX1_next cX1_next 5 (some .int) dd mc ms [aR x, aI a] u q) (hk : kd_ u x = 1) (hK : ∀ r v, q r v → kd_ v r = 19) : MtW_ l yX0_next cX0_next 4 (some .int) [(0, 9, 12, 13), (0, 9, 15, 20), (0, 9, 18, 32)] (dd + 1) mc ms [aR x, aI a, aR o] u (qI fun r v => r = 1 ∧ ∃ y, q y v) := by
  refine MtW_of (by decide) (Nat.le_of_ble_eq_true rfl) (fun X ho hH hX hN => ?_)
  subst hX
  show Z X 0 [some (aR x), some (aI a), some (aR o), none] [] u 0 0
  refine z_aload_n ho dX0_next_0 rfl ?_
  refine z_iconst ho dX0_next_1 ?_
  refine z_aload_n ho dX0_next_2 rfl ?_
  refine z_iload_n ho dX0_next_3 rfl ?_
  refine hX0_41_19 ho hH hN (hM) dX0_next_4 (by assumption) (hK) (Nat.le_refl _) (Nat.le_of_ble_eq_true rfl) (by omega) (by omega) (fun x4 u4 h4 => ?_)
  refine z_astore_n ho dX0_next_12 (Nat.le_of_ble_eq_true rfl) rfl ?_
  refine z_iconst ho dX0_next_13 ?_
  refine r_I ho dX0_next_14 (by omega) (by omega) ?_
  exact ⟨rfl, _, h4⟩
theorem w_next_21 (l : Launch) (u : Mem) {x o : Nat} {a : Int} {dd mc ms : Nat} {q : Nat → Mem → Prop} (hM : Th_ l yX1_next cX1_next 5 (some .int) dd mc ms [aR x, aI a] u q) (hk : kd_ u x = 1) (hK : ∀ r v, q r v → kd_ v r = 21) : MtW_ l yX0_next cX0_next 4 (some .int) [(0, 9, 12, 13), (0, 9, 15, 20), (0, 9, 18, 32)] (dd + 1) mc ms [aR x, aI a, aR o] u (qI fun r v => r = 2 ∧ ∃ y, q y v) := by
  refine MtW_of (by decide) (Nat.le_of_ble_eq_true rfl) (fun X ho hH hX hN => ?_)
  subst hX
  show Z X 0 [some (aR x), some (aI a), some (aR o), none] [] u 0 0
  refine z_aload_n ho dX0_next_0 rfl ?_
  refine z_iconst ho dX0_next_1 ?_
  refine z_aload_n ho dX0_next_2 rfl ?_
  refine z_iload_n ho dX0_next_3 rfl ?_
  refine hX0_41_21 ho hH hN (hM) dX0_next_4 (by assumption) (hK) (Nat.le_refl _) (Nat.le_of_ble_eq_true rfl) (by omega) (by omega) (fun x4 u4 h4 => ?_)
  refine z_astore_n ho dX0_next_15 (Nat.le_of_ble_eq_true rfl) rfl ?_
  refine z_iconst ho dX0_next_16 ?_
  refine r_I ho dX0_next_17 (by omega) (by omega) ?_
  exact ⟨rfl, _, h4⟩
theorem w_next_22 (l : Launch) (u : Mem) {x o : Nat} {a : Int} {dd mc ms : Nat} {q : Nat → Mem → Prop} (hM : Th_ l yX1_next cX1_next 5 (some .int) dd mc ms [aR x, aI a] u q) (hk : kd_ u x = 1) (hK : ∀ r v, q r v → kd_ v r = 22) : MtW_ l yX0_next cX0_next 4 (some .int) [(0, 9, 12, 13), (0, 9, 15, 20), (0, 9, 18, 32)] (dd + 1) mc ms [aR x, aI a, aR o] u (qI fun r v => r = 3 ∧ ∃ y, q y v) := by
  refine MtW_of (by decide) (Nat.le_of_ble_eq_true rfl) (fun X ho hH hX hN => ?_)
  subst hX
  show Z X 0 [some (aR x), some (aI a), some (aR o), none] [] u 0 0
  refine z_aload_n ho dX0_next_0 rfl ?_
  refine z_iconst ho dX0_next_1 ?_
  refine z_aload_n ho dX0_next_2 rfl ?_
  refine z_iload_n ho dX0_next_3 rfl ?_
  refine hX0_41_22 ho hH hN (hM) dX0_next_4 (by assumption) (hK) (Nat.le_refl _) (Nat.le_of_ble_eq_true rfl) (by omega) (by omega) (fun x4 u4 h4 => ?_)
  refine z_astore_n ho dX0_next_18 (Nat.le_of_ble_eq_true rfl) rfl ?_
  refine z_iconst ho dX0_next_19 ?_
  refine r_I ho dX0_next_20 (by omega) (by omega) ?_
  exact ⟨rfl, _, h4⟩
theorem w_drop (l : Launch) (u : Mem) {x o : Nat} {a : Int} {dd mc ms : Nat} {q : Int → Mem → Prop} (hM : Mt_ l yX1_drop cX1_drop 3 (some .int) dd mc ms [aR x, aI a] u (qI q)) (hk : kd_ u x = 1) (hO : ∀ r v, q r v → kd_ v o = 104 ∧ ln_ v o = 1) : MtW_ l yX0_drop cX0_drop 4 (some .int) [(0, 9, 12, 13), (0, 9, 15, 20)] (dd + 1) mc ms [aR x, aI a, aR o] u (qI fun r v => r = 0 ∧ ∃ y w, q y w ∧ v = wI_ w o 0 (Int32.ofInt y).toInt) := by
  refine MtW_of (by decide) (Nat.le_of_ble_eq_true rfl) (fun X ho hH hX hN => ?_)
  subst hX
  show Z X 0 [some (aR x), some (aI a), some (aR o), none] [] u 0 0
  refine z_aload_n ho dX0_drop_0 rfl ?_
  refine z_iconst ho dX0_drop_1 ?_
  refine z_aload_n ho dX0_drop_2 rfl ?_
  refine z_iload_n ho dX0_drop_3 rfl ?_
  refine kX0_44 ho hN (hM) dX0_drop_4 (by assumption) (Nat.le_refl _) (Nat.le_of_ble_eq_true rfl) (by omega) (by omega) (fun x4 u4 h4 => ?_)
  have hw := hO _ _ h4
  refine z_i2l ho dX0_drop_7 ?_
  refine z_last ho dX0_drop_8 rfl hw.1 (by omega) (by rw [hw.2]; omega) ?_
  refine z_goto (tgt := 18) ho dX0_drop_9 (by decide) ?_
  refine z_iconst ho dX0_drop_18 ?_
  refine r_I ho dX0_drop_19 (by omega) (by omega) ?_
  exact ⟨rfl, _, _, h4, rfl⟩
theorem w_drop_19 (l : Launch) (u : Mem) {x o : Nat} {a : Int} {dd mc ms : Nat} {q : Nat → Mem → Prop} (hM : Th_ l yX1_drop cX1_drop 3 (some .int) dd mc ms [aR x, aI a] u q) (hk : kd_ u x = 1) (hK : ∀ r v, q r v → kd_ v r = 19) : MtW_ l yX0_drop cX0_drop 4 (some .int) [(0, 9, 12, 13), (0, 9, 15, 20)] (dd + 1) mc ms [aR x, aI a, aR o] u (qI fun r v => r = 1 ∧ ∃ y, q y v) := by
  refine MtW_of (by decide) (Nat.le_of_ble_eq_true rfl) (fun X ho hH hX hN => ?_)
  subst hX
  show Z X 0 [some (aR x), some (aI a), some (aR o), none] [] u 0 0
  refine z_aload_n ho dX0_drop_0 rfl ?_
  refine z_iconst ho dX0_drop_1 ?_
  refine z_aload_n ho dX0_drop_2 rfl ?_
  refine z_iload_n ho dX0_drop_3 rfl ?_
  refine hX0_44_19 ho hH hN (hM) dX0_drop_4 (by assumption) (hK) (Nat.le_refl _) (Nat.le_of_ble_eq_true rfl) (by omega) (by omega) (fun x4 u4 h4 => ?_)
  refine z_astore_n ho dX0_drop_12 (Nat.le_of_ble_eq_true rfl) rfl ?_
  refine z_iconst ho dX0_drop_13 ?_
  refine r_I ho dX0_drop_14 (by omega) (by omega) ?_
  exact ⟨rfl, _, h4⟩
theorem w_drop_21 (l : Launch) (u : Mem) {x o : Nat} {a : Int} {dd mc ms : Nat} {q : Nat → Mem → Prop} (hM : Th_ l yX1_drop cX1_drop 3 (some .int) dd mc ms [aR x, aI a] u q) (hk : kd_ u x = 1) (hK : ∀ r v, q r v → kd_ v r = 21) : MtW_ l yX0_drop cX0_drop 4 (some .int) [(0, 9, 12, 13), (0, 9, 15, 20)] (dd + 1) mc ms [aR x, aI a, aR o] u (qI fun r v => r = 2 ∧ ∃ y, q y v) := by
  refine MtW_of (by decide) (Nat.le_of_ble_eq_true rfl) (fun X ho hH hX hN => ?_)
  subst hX
  show Z X 0 [some (aR x), some (aI a), some (aR o), none] [] u 0 0
  refine z_aload_n ho dX0_drop_0 rfl ?_
  refine z_iconst ho dX0_drop_1 ?_
  refine z_aload_n ho dX0_drop_2 rfl ?_
  refine z_iload_n ho dX0_drop_3 rfl ?_
  refine hX0_44_21 ho hH hN (hM) dX0_drop_4 (by assumption) (hK) (Nat.le_refl _) (Nat.le_of_ble_eq_true rfl) (by omega) (by omega) (fun x4 u4 h4 => ?_)
  refine z_astore_n ho dX0_drop_15 (Nat.le_of_ble_eq_true rfl) rfl ?_
  refine z_iconst ho dX0_drop_16 ?_
  refine r_I ho dX0_drop_17 (by omega) (by omega) ?_
  exact ⟨rfl, _, h4⟩
theorem w_match (l : Launch) (u : Mem) {x o : Nat} {a b : Int} {dd mc ms : Nat} {q : Int → Mem → Prop} (hM : Mt_ l yX1_match cX1_match 7 (some .int) dd mc ms [aR x, aI a, aI b] u (qI q)) (hk : kd_ u x = 1) (hO : ∀ r v, q r v → kd_ v o = 104 ∧ ln_ v o = 1) : MtW_ l yX0_match cX0_match 5 (some .int) [(0, 10, 13, 13), (0, 10, 17, 18)] (dd + 1) mc ms [aR x, aI a, aI b, aR o] u (qI fun r v => r = 0 ∧ ∃ y w, q y w ∧ v = wI_ w o 0 (Int32.ofInt y).toInt) := by
  refine MtW_of (by decide) (Nat.le_of_ble_eq_true rfl) (fun X ho hH hX hN => ?_)
  subst hX
  show Z X 0 [some (aR x), some (aI a), some (aI b), some (aR o), none] [] u 0 0
  refine z_aload_n ho dX0_match_0 rfl ?_
  refine z_iconst ho dX0_match_1 ?_
  refine z_aload_n ho dX0_match_2 rfl ?_
  refine z_iload_n ho dX0_match_3 rfl ?_
  refine z_iload_n ho dX0_match_4 rfl ?_
  refine kX0_47 ho hN (hM) dX0_match_5 (by assumption) (Nat.le_refl _) (Nat.le_of_ble_eq_true rfl) (by omega) (by omega) (fun x5 u5 h5 => ?_)
  have hw := hO _ _ h5
  refine z_i2l ho dX0_match_8 ?_
  refine z_last ho dX0_match_9 rfl hw.1 (by omega) (by rw [hw.2]; omega) ?_
  refine z_goto (tgt := 21) ho dX0_match_10 (by decide) ?_
  refine z_iconst ho dX0_match_21 ?_
  refine r_I ho dX0_match_22 (by omega) (by omega) ?_
  exact ⟨rfl, _, _, h5, rfl⟩
theorem w_match_19 (l : Launch) (u : Mem) {x o : Nat} {a b : Int} {dd mc ms : Nat} {q : Nat → Mem → Prop} (hM : Th_ l yX1_match cX1_match 7 (some .int) dd mc ms [aR x, aI a, aI b] u q) (hk : kd_ u x = 1) (hK : ∀ r v, q r v → kd_ v r = 19) : MtW_ l yX0_match cX0_match 5 (some .int) [(0, 10, 13, 13), (0, 10, 17, 18)] (dd + 1) mc ms [aR x, aI a, aI b, aR o] u (qI fun r v => r = 1 ∧ ∃ y, q y v) := by
  refine MtW_of (by decide) (Nat.le_of_ble_eq_true rfl) (fun X ho hH hX hN => ?_)
  subst hX
  show Z X 0 [some (aR x), some (aI a), some (aI b), some (aR o), none] [] u 0 0
  refine z_aload_n ho dX0_match_0 rfl ?_
  refine z_iconst ho dX0_match_1 ?_
  refine z_aload_n ho dX0_match_2 rfl ?_
  refine z_iload_n ho dX0_match_3 rfl ?_
  refine z_iload_n ho dX0_match_4 rfl ?_
  refine hX0_47_19 ho hH hN (hM) dX0_match_5 (by assumption) (hK) (Nat.le_refl _) (Nat.le_of_ble_eq_true rfl) (by omega) (by omega) (fun x5 u5 h5 => ?_)
  refine z_astore ho dX0_match_13 (Nat.le_of_ble_eq_true rfl) rfl ?_
  refine z_iconst ho dX0_match_15 ?_
  refine r_I ho dX0_match_16 (by omega) (by omega) ?_
  exact ⟨rfl, _, h5⟩
theorem w_match_20 (l : Launch) (u : Mem) {x o : Nat} {a b : Int} {dd mc ms : Nat} {q : Nat → Mem → Prop} (hM : Th_ l yX1_match cX1_match 7 (some .int) dd mc ms [aR x, aI a, aI b] u q) (hk : kd_ u x = 1) (hK : ∀ r v, q r v → kd_ v r = 20) : MtW_ l yX0_match cX0_match 5 (some .int) [(0, 10, 13, 13), (0, 10, 17, 18)] (dd + 1) mc ms [aR x, aI a, aI b, aR o] u (qI fun r v => r = 2 ∧ ∃ y, q y v) := by
  refine MtW_of (by decide) (Nat.le_of_ble_eq_true rfl) (fun X ho hH hX hN => ?_)
  subst hX
  show Z X 0 [some (aR x), some (aI a), some (aI b), some (aR o), none] [] u 0 0
  refine z_aload_n ho dX0_match_0 rfl ?_
  refine z_iconst ho dX0_match_1 ?_
  refine z_aload_n ho dX0_match_2 rfl ?_
  refine z_iload_n ho dX0_match_3 rfl ?_
  refine z_iload_n ho dX0_match_4 rfl ?_
  refine hX0_47_20 ho hH hN (hM) dX0_match_5 (by assumption) (hK) (Nat.le_refl _) (Nat.le_of_ble_eq_true rfl) (by omega) (by omega) (fun x5 u5 h5 => ?_)
  refine z_astore ho dX0_match_17 (Nat.le_of_ble_eq_true rfl) rfl ?_
  refine z_iconst ho dX0_match_19 ?_
  refine r_I ho dX0_match_20 (by omega) (by omega) ?_
  exact ⟨rfl, _, h5⟩
theorem w_edges (l : Launch) (u : Mem) {x o : Nat} {a : Int} {dd mc ms : Nat} {q : Int → Mem → Prop} (hM : Mt_ l yX1_edges cX1_edges 3 (some .int) dd mc ms [aR x, aI a] u (qI q)) (hk : kd_ u x = 1) (hO : ∀ r v, q r v → kd_ v o = 104 ∧ ln_ v o = 1) : MtW_ l yX0_edges cX0_edges 4 (some .int) [(0, 9, 12, 13)] (dd + 1) mc ms [aR x, aI a, aR o] u (qI fun r v => r = 0 ∧ ∃ y w, q y w ∧ v = wI_ w o 0 (Int32.ofInt y).toInt) := by
  refine MtW_of (by decide) (Nat.le_of_ble_eq_true rfl) (fun X ho hH hX hN => ?_)
  subst hX
  show Z X 0 [some (aR x), some (aI a), some (aR o), none] [] u 0 0
  refine z_aload_n ho dX0_edges_0 rfl ?_
  refine z_iconst ho dX0_edges_1 ?_
  refine z_aload_n ho dX0_edges_2 rfl ?_
  refine z_iload_n ho dX0_edges_3 rfl ?_
  refine kX0_50 ho hN (hM) dX0_edges_4 (by assumption) (Nat.le_refl _) (Nat.le_of_ble_eq_true rfl) (by omega) (by omega) (fun x4 u4 h4 => ?_)
  have hw := hO _ _ h4
  refine z_i2l ho dX0_edges_7 ?_
  refine z_last ho dX0_edges_8 rfl hw.1 (by omega) (by rw [hw.2]; omega) ?_
  refine z_goto (tgt := 15) ho dX0_edges_9 (by decide) ?_
  refine z_iconst ho dX0_edges_15 ?_
  refine r_I ho dX0_edges_16 (by omega) (by omega) ?_
  exact ⟨rfl, _, _, h4, rfl⟩
theorem w_edges_19 (l : Launch) (u : Mem) {x o : Nat} {a : Int} {dd mc ms : Nat} {q : Nat → Mem → Prop} (hM : Th_ l yX1_edges cX1_edges 3 (some .int) dd mc ms [aR x, aI a] u q) (hk : kd_ u x = 1) (hK : ∀ r v, q r v → kd_ v r = 19) : MtW_ l yX0_edges cX0_edges 4 (some .int) [(0, 9, 12, 13)] (dd + 1) mc ms [aR x, aI a, aR o] u (qI fun r v => r = 1 ∧ ∃ y, q y v) := by
  refine MtW_of (by decide) (Nat.le_of_ble_eq_true rfl) (fun X ho hH hX hN => ?_)
  subst hX
  show Z X 0 [some (aR x), some (aI a), some (aR o), none] [] u 0 0
  refine z_aload_n ho dX0_edges_0 rfl ?_
  refine z_iconst ho dX0_edges_1 ?_
  refine z_aload_n ho dX0_edges_2 rfl ?_
  refine z_iload_n ho dX0_edges_3 rfl ?_
  refine hX0_50_19 ho hH hN (hM) dX0_edges_4 (by assumption) (hK) (Nat.le_refl _) (Nat.le_of_ble_eq_true rfl) (by omega) (by omega) (fun x4 u4 h4 => ?_)
  refine z_astore_n ho dX0_edges_12 (Nat.le_of_ble_eq_true rfl) rfl ?_
  refine z_iconst ho dX0_edges_13 ?_
  refine r_I ho dX0_edges_14 (by omega) (by omega) ?_
  exact ⟨rfl, _, h4⟩
theorem w_freeze (l : Launch) (u : Mem) {x o : Nat} {a : Int} {dd mc ms : Nat} {q : Int → Mem → Prop} (hM : Mt_ l yX1_freeze cX1_freeze 4 (some .int) dd mc ms [aR x, aI a] u (qI q)) (hk : kd_ u x = 1) (hO : ∀ r v, q r v → kd_ v o = 104 ∧ ln_ v o = 1) : MtW_ l yX0_freeze cX0_freeze 4 (some .int) [(0, 9, 12, 13)] (dd + 1) mc ms [aR x, aI a, aR o] u (qI fun r v => r = 0 ∧ ∃ y w, q y w ∧ v = wI_ w o 0 (Int32.ofInt y).toInt) := by
  refine MtW_of (by decide) (Nat.le_of_ble_eq_true rfl) (fun X ho hH hX hN => ?_)
  subst hX
  show Z X 0 [some (aR x), some (aI a), some (aR o), none] [] u 0 0
  refine z_aload_n ho dX0_freeze_0 rfl ?_
  refine z_iconst ho dX0_freeze_1 ?_
  refine z_aload_n ho dX0_freeze_2 rfl ?_
  refine z_iload_n ho dX0_freeze_3 rfl ?_
  refine kX0_53 ho hN (hM) dX0_freeze_4 (by assumption) (Nat.le_refl _) (Nat.le_of_ble_eq_true rfl) (by omega) (by omega) (fun x4 u4 h4 => ?_)
  have hw := hO _ _ h4
  refine z_i2l ho dX0_freeze_7 ?_
  refine z_last ho dX0_freeze_8 rfl hw.1 (by omega) (by rw [hw.2]; omega) ?_
  refine z_goto (tgt := 15) ho dX0_freeze_9 (by decide) ?_
  refine z_iconst ho dX0_freeze_15 ?_
  refine r_I ho dX0_freeze_16 (by omega) (by omega) ?_
  exact ⟨rfl, _, _, h4, rfl⟩
theorem w_freeze_19 (l : Launch) (u : Mem) {x o : Nat} {a : Int} {dd mc ms : Nat} {q : Nat → Mem → Prop} (hM : Th_ l yX1_freeze cX1_freeze 4 (some .int) dd mc ms [aR x, aI a] u q) (hk : kd_ u x = 1) (hK : ∀ r v, q r v → kd_ v r = 19) : MtW_ l yX0_freeze cX0_freeze 4 (some .int) [(0, 9, 12, 13)] (dd + 1) mc ms [aR x, aI a, aR o] u (qI fun r v => r = 1 ∧ ∃ y, q y v) := by
  refine MtW_of (by decide) (Nat.le_of_ble_eq_true rfl) (fun X ho hH hX hN => ?_)
  subst hX
  show Z X 0 [some (aR x), some (aI a), some (aR o), none] [] u 0 0
  refine z_aload_n ho dX0_freeze_0 rfl ?_
  refine z_iconst ho dX0_freeze_1 ?_
  refine z_aload_n ho dX0_freeze_2 rfl ?_
  refine z_iload_n ho dX0_freeze_3 rfl ?_
  refine hX0_53_19 ho hH hN (hM) dX0_freeze_4 (by assumption) (hK) (Nat.le_refl _) (Nat.le_of_ble_eq_true rfl) (by omega) (by omega) (fun x4 u4 h4 => ?_)
  refine z_astore_n ho dX0_freeze_12 (Nat.le_of_ble_eq_true rfl) rfl ?_
  refine z_iconst ho dX0_freeze_13 ?_
  refine r_I ho dX0_freeze_14 (by omega) (by omega) ?_
  exact ⟨rfl, _, h4⟩
theorem w_insert (l : Launch) (u : Mem) {x o : Nat} {a : Int} {dd mc ms : Nat} {q : Int → Mem → Prop} (hM : Mt_ l yX1_insert cX1_insert 3 (some .int) dd mc ms [aR x, aI a] u (qI q)) (hk : kd_ u x = 1) (hO : ∀ r v, q r v → kd_ v o = 104 ∧ ln_ v o = 1) : MtW_ l yX0_insert cX0_insert 4 (some .int) [(0, 9, 12, 13), (0, 9, 15, 20)] (dd + 1) mc ms [aR x, aI a, aR o] u (qI fun r v => r = 0 ∧ ∃ y w, q y w ∧ v = wI_ w o 0 (Int32.ofInt y).toInt) := by
  refine MtW_of (by decide) (Nat.le_of_ble_eq_true rfl) (fun X ho hH hX hN => ?_)
  subst hX
  show Z X 0 [some (aR x), some (aI a), some (aR o), none] [] u 0 0
  refine z_aload_n ho dX0_insert_0 rfl ?_
  refine z_iconst ho dX0_insert_1 ?_
  refine z_aload_n ho dX0_insert_2 rfl ?_
  refine z_iload_n ho dX0_insert_3 rfl ?_
  refine kX0_56 ho hN (hM) dX0_insert_4 (by assumption) (Nat.le_refl _) (Nat.le_of_ble_eq_true rfl) (by omega) (by omega) (fun x4 u4 h4 => ?_)
  have hw := hO _ _ h4
  refine z_i2l ho dX0_insert_7 ?_
  refine z_last ho dX0_insert_8 rfl hw.1 (by omega) (by rw [hw.2]; omega) ?_
  refine z_goto (tgt := 18) ho dX0_insert_9 (by decide) ?_
  refine z_iconst ho dX0_insert_18 ?_
  refine r_I ho dX0_insert_19 (by omega) (by omega) ?_
  exact ⟨rfl, _, _, h4, rfl⟩
theorem w_insert_19 (l : Launch) (u : Mem) {x o : Nat} {a : Int} {dd mc ms : Nat} {q : Nat → Mem → Prop} (hM : Th_ l yX1_insert cX1_insert 3 (some .int) dd mc ms [aR x, aI a] u q) (hk : kd_ u x = 1) (hK : ∀ r v, q r v → kd_ v r = 19) : MtW_ l yX0_insert cX0_insert 4 (some .int) [(0, 9, 12, 13), (0, 9, 15, 20)] (dd + 1) mc ms [aR x, aI a, aR o] u (qI fun r v => r = 1 ∧ ∃ y, q y v) := by
  refine MtW_of (by decide) (Nat.le_of_ble_eq_true rfl) (fun X ho hH hX hN => ?_)
  subst hX
  show Z X 0 [some (aR x), some (aI a), some (aR o), none] [] u 0 0
  refine z_aload_n ho dX0_insert_0 rfl ?_
  refine z_iconst ho dX0_insert_1 ?_
  refine z_aload_n ho dX0_insert_2 rfl ?_
  refine z_iload_n ho dX0_insert_3 rfl ?_
  refine hX0_56_19 ho hH hN (hM) dX0_insert_4 (by assumption) (hK) (Nat.le_refl _) (Nat.le_of_ble_eq_true rfl) (by omega) (by omega) (fun x4 u4 h4 => ?_)
  refine z_astore_n ho dX0_insert_12 (Nat.le_of_ble_eq_true rfl) rfl ?_
  refine z_iconst ho dX0_insert_13 ?_
  refine r_I ho dX0_insert_14 (by omega) (by omega) ?_
  exact ⟨rfl, _, h4⟩
theorem w_insert_21 (l : Launch) (u : Mem) {x o : Nat} {a : Int} {dd mc ms : Nat} {q : Nat → Mem → Prop} (hM : Th_ l yX1_insert cX1_insert 3 (some .int) dd mc ms [aR x, aI a] u q) (hk : kd_ u x = 1) (hK : ∀ r v, q r v → kd_ v r = 21) : MtW_ l yX0_insert cX0_insert 4 (some .int) [(0, 9, 12, 13), (0, 9, 15, 20)] (dd + 1) mc ms [aR x, aI a, aR o] u (qI fun r v => r = 2 ∧ ∃ y, q y v) := by
  refine MtW_of (by decide) (Nat.le_of_ble_eq_true rfl) (fun X ho hH hX hN => ?_)
  subst hX
  show Z X 0 [some (aR x), some (aI a), some (aR o), none] [] u 0 0
  refine z_aload_n ho dX0_insert_0 rfl ?_
  refine z_iconst ho dX0_insert_1 ?_
  refine z_aload_n ho dX0_insert_2 rfl ?_
  refine z_iload_n ho dX0_insert_3 rfl ?_
  refine hX0_56_21 ho hH hN (hM) dX0_insert_4 (by assumption) (hK) (Nat.le_refl _) (Nat.le_of_ble_eq_true rfl) (by omega) (by omega) (fun x4 u4 h4 => ?_)
  refine z_astore_n ho dX0_insert_15 (Nat.le_of_ble_eq_true rfl) rfl ?_
  refine z_iconst ho dX0_insert_16 ?_
  refine r_I ho dX0_insert_17 (by omega) (by omega) ?_
  exact ⟨rfl, _, h4⟩
theorem w_delete (l : Launch) (u : Mem) {x o : Nat} {a b : Int} {dd mc ms : Nat} {q : Int → Mem → Prop} (hM : Mt_ l yX1_delete cX1_delete 3 (some .int) dd mc ms [aR x, aI a, aI b] u (qI q)) (hk : kd_ u x = 1) (hO : ∀ r v, q r v → kd_ v o = 104 ∧ ln_ v o = 1) : MtW_ l yX0_delete cX0_delete 5 (some .int) [(0, 10, 13, 13)] (dd + 1) mc ms [aR x, aI a, aI b, aR o] u (qI fun r v => r = 0 ∧ ∃ y w, q y w ∧ v = wI_ w o 0 (Int32.ofInt y).toInt) := by
  refine MtW_of (by decide) (Nat.le_of_ble_eq_true rfl) (fun X ho hH hX hN => ?_)
  subst hX
  show Z X 0 [some (aR x), some (aI a), some (aI b), some (aR o), none] [] u 0 0
  refine z_aload_n ho dX0_delete_0 rfl ?_
  refine z_iconst ho dX0_delete_1 ?_
  refine z_aload_n ho dX0_delete_2 rfl ?_
  refine z_iload_n ho dX0_delete_3 rfl ?_
  refine z_iload_n ho dX0_delete_4 rfl ?_
  refine kX0_59 ho hN (hM) dX0_delete_5 (by assumption) (Nat.le_refl _) (Nat.le_of_ble_eq_true rfl) (by omega) (by omega) (fun x5 u5 h5 => ?_)
  have hw := hO _ _ h5
  refine z_i2l ho dX0_delete_8 ?_
  refine z_last ho dX0_delete_9 rfl hw.1 (by omega) (by rw [hw.2]; omega) ?_
  refine z_goto (tgt := 17) ho dX0_delete_10 (by decide) ?_
  refine z_iconst ho dX0_delete_17 ?_
  refine r_I ho dX0_delete_18 (by omega) (by omega) ?_
  exact ⟨rfl, _, _, h5, rfl⟩
theorem w_delete_19 (l : Launch) (u : Mem) {x o : Nat} {a b : Int} {dd mc ms : Nat} {q : Nat → Mem → Prop} (hM : Th_ l yX1_delete cX1_delete 3 (some .int) dd mc ms [aR x, aI a, aI b] u q) (hk : kd_ u x = 1) (hK : ∀ r v, q r v → kd_ v r = 19) : MtW_ l yX0_delete cX0_delete 5 (some .int) [(0, 10, 13, 13)] (dd + 1) mc ms [aR x, aI a, aI b, aR o] u (qI fun r v => r = 1 ∧ ∃ y, q y v) := by
  refine MtW_of (by decide) (Nat.le_of_ble_eq_true rfl) (fun X ho hH hX hN => ?_)
  subst hX
  show Z X 0 [some (aR x), some (aI a), some (aI b), some (aR o), none] [] u 0 0
  refine z_aload_n ho dX0_delete_0 rfl ?_
  refine z_iconst ho dX0_delete_1 ?_
  refine z_aload_n ho dX0_delete_2 rfl ?_
  refine z_iload_n ho dX0_delete_3 rfl ?_
  refine z_iload_n ho dX0_delete_4 rfl ?_
  refine hX0_59_19 ho hH hN (hM) dX0_delete_5 (by assumption) (hK) (Nat.le_refl _) (Nat.le_of_ble_eq_true rfl) (by omega) (by omega) (fun x5 u5 h5 => ?_)
  refine z_astore ho dX0_delete_13 (Nat.le_of_ble_eq_true rfl) rfl ?_
  refine z_iconst ho dX0_delete_15 ?_
  refine r_I ho dX0_delete_16 (by omega) (by omega) ?_
  exact ⟨rfl, _, h5⟩
