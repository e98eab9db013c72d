set_option maxRecDepth 100000
/-! ===== KeyHall: edits, found, size, iterate ===== -/
/-- an exception of kind K, and the hall behind it -/
def qTh (K x : Nat) (u : Mem) (tp fd : List Int) (M : Nat → List KV) (ch : Nat → Int) (VL : List VS) (Ks : List (List Int)) (T : List Int) (Os : List (List Int)) (e : Nat) (v : Mem) : Prop := kd_ v e = K ∧ HS v x tp fd M ch VL Ks T Os ∧ MR x u v
theorem qTh_ex {K x e : Nat} {u v : Mem} {tp fd : List Int} {M : Nat → List KV} {ch : Nat → Int} {VL : List VS} {Ks : List (List Int)} {T : List Int} {Os : List (List Int)} (h : HS u x tp fd M ch VL Ks T Os) (hw : Wf u) (hq : qEx K u e v) : qTh K x u tp fd M ch VL Ks T Os e v := by
  obtain ⟨rfl, rfl⟩ := hq
  have g1 := h.1.1
  have hs : ∀ a, a < sz_ u → Sm u (al_ u K 0) a := fun a ha => Sm.al (by omega)
  exact ⟨by rw [kd_al, if_pos rfl], h.grow hw (by rw [sz_al]; omega) hs, by rw [sz_al]; omega, fun a q1 q2 => hs a (by omega)⟩
theorem qTh_tr {K x e : Nat} {u w v : Mem} {tp fd : List Int} {M : Nat → List KV} {ch : Nat → Int} {VL : List VS} {Ks : List (List Int)} {T : List Int} {Os : List (List Int)} (hm : MR x u w) (hq : qTh K x w tp fd M ch VL Ks T Os e v) : qTh K x u tp fd M ch VL Ks T Os e v := ⟨hq.1, hq.2.1, hm.tr hq.2.2⟩
theorem c_delete (l : Launch) (u : Mem) {x : Nat} {i k : Int} {tp fd : List Int} {M : Nat → List KV} {ch : Nat → Int} {VL : List VS} {Ks : List (List Int)} {T : List Int} {Os : List (List Int)} (h : HS u x tp fd M ch VL Ks T Os) (h0 : 0 ≤ i) (h1 : i ≤ k) (h2 : k ≤ T.length) : Mt_ l yX1_delete cX1_delete 3 (some .int) 22 2372 14199 [aR x, aI i, aI k] u (qI fun r v => MR x u v ∧ r = (T.take i.toNat ++ T.drop k.toNat).length ∧ HS v x tp fd M ch VL Ks (T.take i.toNat ++ T.drop k.toNat) (psh Os T)) := by
  have hF := h.2.1
  have hX := h.2.2.2.2.2.2.2
  have kx := hF.1
  have e7 := hF.2.2.2.2.2.2.2.2.1
  have ks := hX.1.1.1.1
  have hT := hX.1.2.2.1
  refine Mt_of (by decide) (Nat.le_of_ble_eq_true rfl) (fun X ho hX hN hI => ?_)
  subst hX
  show Z X 0 [some (aR x), some (aI i), some (aI k)] [] u 0 0
  refine z_wf (fun hw => ?_)
  refine z_iload_n ho dX1_delete_0 rfl ?_
  refine z_if_lt (tgt := 24) ho dX1_delete_1 (by decide) (by unfold rng; omega) (fun c1 => ?_) (fun c1 => ?_)
  · omega
  · 
    refine z_iload_n ho dX1_delete_4 rfl ?_
    refine z_iload_n ho dX1_delete_5 rfl ?_
    refine z_icmp_gt (tgt := 24) ho dX1_delete_6 (by decide) (by unfold rng; omega) (by unfold rng; omega) (fun c6 => ?_) (fun c6 => ?_)
    · omega
    · 
      refine z_iload_n ho dX1_delete_9 rfl ?_
      refine z_aload_n ho dX1_delete_10 rfl ?_
      refine gX1_53 ho dX1_delete_11 kx ?_
      rw [e7]
      refine kX1_239 ho hN (c_slen _ _ ks hX.1.2.1) dX1_delete_14 ks (by omega) (Nat.le_of_ble_eq_true rfl) (Nat.le_of_ble_eq_true rfl) (Nat.le_of_ble_eq_true rfl) (fun x14 u14 h14 => ?_)
      obtain ⟨rfl, rfl⟩ := h14
      refine z_icmp_gt (tgt := 24) ho dX1_delete_17 (by decide) (by unfold rng; omega) (by unfold rng; omega) (fun c17 => ?_) (fun c17 => ?_)
      · omega
      · 
        refine z_iconst ho dX1_delete_20 ?_
        refine z_goto (tgt := 25) ho dX1_delete_21 (by decide) ?_
        refine kX1_76 ho hN (c_need _ _) dX1_delete_25 (by omega) (Nat.le_of_ble_eq_true rfl) (Nat.le_of_ble_eq_true rfl) (Nat.le_of_ble_eq_true rfl) (fun u25 h25 => ?_)
        obtain rfl := h25
        refine z_aload_n ho dX1_delete_28 rfl ?_
        refine gX1_53 ho dX1_delete_29 kx ?_
        rw [e7]
        refine z_iload_n ho dX1_delete_32 rfl ?_
        refine z_iload_n ho dX1_delete_33 rfl ?_
        refine kX1_248 ho hN (c_sdelete _ _ hX.1 h0 h1 h2 h.1.1) dX1_delete_34 ks (by omega) (Nat.le_of_ble_eq_true rfl) (Nat.le_of_ble_eq_true rfl) (Nat.le_of_ble_eq_true rfl) (fun x34 u34 h34 => ?_)
        obtain ⟨g1, g2, g3, g4, g5⟩ := h34
        refine r_I ho dX1_delete_37 (Nat.le_of_ble_eq_true rfl) (Nat.le_of_ble_eq_true rfl) ?_
        obtain ⟨q1, q2⟩ := h.scr hw g5 ⟨g2, Or.inl g3⟩
        exact ⟨q2, g1, q1⟩
theorem t_delete (l : Launch) (hst : l.stackTraces = false) (u : Mem) {x : Nat} {i k : Int} {tp fd : List Int} {M : Nat → List KV} {ch : Nat → Int} {VL : List VS} {Ks : List (List Int)} {T : List Int} {Os : List (List Int)} (h : HS u x tp fd M ch VL Ks T Os) (ri : rng i) (rk : rng k) (hn : ¬ (0 ≤ i ∧ i ≤ k ∧ k ≤ T.length)) : Th_ l yX1_delete cX1_delete 3 (some .int) 22 2372 14199 [aR x, aI i, aI k] u (qTh 19 x u tp fd M ch VL Ks T Os) := by
  have hF := h.2.1
  have hX := h.2.2.2.2.2.2.2
  have kx := hF.1
  have e7 := hF.2.2.2.2.2.2.2.2.1
  have ks := hX.1.1.1.1
  have hT := hX.1.2.2.1
  refine Th_of (by decide) (Nat.le_of_ble_eq_true rfl) (fun X ho hT hX hN => ?_)
  subst hX
  show Z X 0 [some (aR x), some (aI i), some (aI k)] [] u 0 0
  refine z_wf (fun hw => ?_)
  have t24 : Z X 24 [some (aR x), some (aI i), some (aI k)] [] u 0 0 := by
    refine z_iconst ho dX1_delete_24 ?_
    refine tX1_76 ho hT hN (t_need _ hst _) dX1_delete_25 (by omega) (Nat.le_of_ble_eq_true rfl) (Nat.le_of_ble_eq_true rfl) (Nat.le_of_ble_eq_true rfl) (fun x25 u25 h25 => ?_)
    exact qTh_ex h hw h25
  refine z_iload_n ho dX1_delete_0 rfl ?_
  refine z_if_lt (tgt := 24) ho dX1_delete_1 (by decide) ri (fun c1 => ?_) (fun c1 => ?_)
  · exact t24
  · 
    refine z_iload_n ho dX1_delete_4 rfl ?_
    refine z_iload_n ho dX1_delete_5 rfl ?_
    refine z_icmp_gt (tgt := 24) ho dX1_delete_6 (by decide) ri rk (fun c6 => ?_) (fun c6 => ?_)
    · exact t24
    · 
      refine z_iload_n ho dX1_delete_9 rfl ?_
      refine z_aload_n ho dX1_delete_10 rfl ?_
      refine gX1_53 ho dX1_delete_11 kx ?_
      rw [e7]
      refine kX1_239 ho hN (c_slen _ _ ks hX.1.2.1) dX1_delete_14 ks (by omega) (Nat.le_of_ble_eq_true rfl) (Nat.le_of_ble_eq_true rfl) (Nat.le_of_ble_eq_true rfl) (fun x14 u14 h14 => ?_)
      obtain ⟨rfl, rfl⟩ := h14
      refine z_icmp_gt (tgt := 24) ho dX1_delete_17 (by decide) rk (by unfold rng; omega) (fun c17 => ?_) (fun c17 => ?_)
      · exact t24
      · exact absurd ⟨by omega, by omega, by omega⟩ hn
theorem c_insert (l : Launch) (u : Mem) {x : Nat} {i : Int} {tp fd : List Int} {M : Nat → List KV} {ch : Nat → Int} {VL : List VS} {Ks : List (List Int)} {T : List Int} {Os : List (List Int)} (h : HS u x tp fd M ch VL Ks T Os) (h0 : 0 ≤ i) (h1 : i ≤ T.length) (h2 : T.length + tp.length ≤ 120) : Mt_ l yX1_insert cX1_insert 3 (some .int) 22 2372 14199 [aR x, aI i] u (qI fun r v => MR x u v ∧ r = (T.take i.toNat ++ (tp ++ T.drop i.toNat)).length ∧ HS v x [] fd M ch VL Ks (T.take i.toNat ++ (tp ++ T.drop i.toNat)) (psh Os T)) := by
  have hF := h.2.1
  have hX := h.2.2.2.2.2.2.2
  have kx := hF.1
  have e7 := hF.2.2.2.2.2.2.2.2.1
  have ks := hX.1.1.1.1
  have hT := hX.1.2.2.1
  refine Mt_of (by decide) (Nat.le_of_ble_eq_true rfl) (fun X ho hX hN hI => ?_)
  subst hX
  show Z X 0 [some (aR x), some (aI i), none] [] u 0 0
  refine z_wf (fun hw => ?_)
  refine z_iload_n ho dX1_insert_0 rfl ?_
  refine z_if_lt (tgt := 19) ho dX1_insert_1 (by decide) (by unfold rng; omega) (fun c1 => ?_) (fun c1 => ?_)
  · omega
  · 
    refine z_iload_n ho dX1_insert_4 rfl ?_
    refine z_aload_n ho dX1_insert_5 rfl ?_
    refine gX1_53 ho dX1_insert_6 kx ?_
    rw [e7]
    refine kX1_239 ho hN (c_slen _ _ ks hX.1.2.1) dX1_insert_9 ks (by omega) (Nat.le_of_ble_eq_true rfl) (Nat.le_of_ble_eq_true rfl) (Nat.le_of_ble_eq_true rfl) (fun x9 u9 h9 => ?_)
    obtain ⟨rfl, rfl⟩ := h9
    refine z_icmp_gt (tgt := 19) ho dX1_insert_12 (by decide) (by unfold rng; omega) (by unfold rng; omega) (fun c12 => ?_) (fun c12 => ?_)
    · omega
    · 
      refine z_iconst ho dX1_insert_15 ?_
      refine z_goto (tgt := 20) ho dX1_insert_16 (by decide) ?_
      refine kX1_76 ho hN (c_need _ _) dX1_insert_20 (by omega) (Nat.le_of_ble_eq_true rfl) (Nat.le_of_ble_eq_true rfl) (Nat.le_of_ble_eq_true rfl) (fun u20 h20 => ?_)
      obtain rfl := h20
      refine z_aload_n ho dX1_insert_23 rfl ?_
      refine kX1_95 ho hN (c_use _ _ h) dX1_insert_24 kx (by omega) (Nat.le_of_ble_eq_true rfl) (Nat.le_of_ble_eq_true rfl) (Nat.le_of_ble_eq_true rfl) (fun x24 u24 h24 => ?_)
      obtain ⟨rfl, u2, u3, u4, u5, u6⟩ := h24
      refine z_wf (fun hw1 => ?_)
      have M1 : MR x u u24 := ⟨by omega, fun a q1 q2 => u6 a (by omega) (by omega) (by omega)⟩
      have X1 := u3.2.2.2.2.2.2.2
      have F1 := u3.2.1
      have ks1 := X1.1.1.1.1
      have en : iv_ u24 (x + 28) 1 = tp.length := by rw [← u2.1.tx_len, u2.2.2]
      refine z_astore_n ho dX1_insert_27 (Nat.le_of_ble_eq_true rfl) rfl ?_
      refine z_aload_n ho dX1_insert_28 rfl ?_
      refine gX1_53 ho dX1_insert_29 F1.1 ?_
      rw [F1.2.2.2.2.2.2.2.2.1]
      refine kX1_239 ho hN (c_slen _ _ ks1 X1.1.2.1) dX1_insert_32 ks1 (by omega) (Nat.le_of_ble_eq_true rfl) (Nat.le_of_ble_eq_true rfl) (Nat.le_of_ble_eq_true rfl) (fun x32 u32 h32 => ?_)
      obtain ⟨rfl, rfl⟩ := h32
      refine z_aload_n ho dX1_insert_35 rfl ?_
      refine gX1_84 ho dX1_insert_36 u2.1.1 ?_
      rw [en]
      refine z_iadd ho dX1_insert_39 ?_
      refine z_bipush ho dX1_insert_40 rfl ?_
      refine z_icmp_le (tgt := 55) ho dX1_insert_42 (by decide) (by unfold rng; omega) (by unfold rng; omega) (fun c42 => ?_) (fun c42 => ?_)
      · 
        refine z_aload_n ho dX1_insert_55 rfl ?_
        refine gX1_53 ho dX1_insert_56 F1.1 ?_
        rw [F1.2.2.2.2.2.2.2.2.1]
        refine z_iload_n ho dX1_insert_59 rfl ?_
        refine z_aload_n ho dX1_insert_60 rfl ?_
        refine kX1_244 ho hN (c_sinsert _ _ X1.1 u2.1 h0 h1 (by rw [u2.2.2]; exact h2) u3.1.1) dX1_insert_61 ks1 (by omega) (Nat.le_of_ble_eq_true rfl) (Nat.le_of_ble_eq_true rfl) (Nat.le_of_ble_eq_true rfl) (fun x61 u61 h61 => ?_)
        obtain ⟨g1, g2, g3, g4, g5⟩ := h61
        refine r_I ho dX1_insert_64 (Nat.le_of_ble_eq_true rfl) (Nat.le_of_ble_eq_true rfl) ?_
        obtain ⟨q1, q2⟩ := u3.scr hw1 g5 ⟨g2, Or.inl g3⟩
        rw [u2.2.2] at g1 q1
        exact ⟨M1.tr q2, g1, q1⟩
      · omega
theorem t_insert1 (l : Launch) (hst : l.stackTraces = false) (u : Mem) {x : Nat} {i : Int} {tp fd : List Int} {M : Nat → List KV} {ch : Nat → Int} {VL : List VS} {Ks : List (List Int)} {T : List Int} {Os : List (List Int)} (h : HS u x tp fd M ch VL Ks T Os) (ri : rng i) (hn : ¬ (0 ≤ i ∧ i ≤ T.length)) : Th_ l yX1_insert cX1_insert 3 (some .int) 22 2372 14199 [aR x, aI i] u (qTh 19 x u tp fd M ch VL Ks T Os) := by
  have hF := h.2.1
  have hX := h.2.2.2.2.2.2.2
  have kx := hF.1
  have e7 := hF.2.2.2.2.2.2.2.2.1
  have ks := hX.1.1.1.1
  have hT := hX.1.2.2.1
  refine Th_of (by decide) (Nat.le_of_ble_eq_true rfl) (fun X ho hT hX hN => ?_)
  subst hX
  show Z X 0 [some (aR x), some (aI i), none] [] u 0 0
  refine z_wf (fun hw => ?_)
  have t19 : Z X 19 [some (aR x), some (aI i), none] [] u 0 0 := by
    refine z_iconst ho dX1_insert_19 ?_
    refine tX1_76 ho hT hN (t_need _ hst _) dX1_insert_20 (by omega) (Nat.le_of_ble_eq_true rfl) (Nat.le_of_ble_eq_true rfl) (Nat.le_of_ble_eq_true rfl) (fun x20 u20 h20 => ?_)
    exact qTh_ex h hw h20
  refine z_iload_n ho dX1_insert_0 rfl ?_
  refine z_if_lt (tgt := 19) ho dX1_insert_1 (by decide) ri (fun c1 => ?_) (fun c1 => ?_)
  · exact t19
  · 
    refine z_iload_n ho dX1_insert_4 rfl ?_
    refine z_aload_n ho dX1_insert_5 rfl ?_
    refine gX1_53 ho dX1_insert_6 kx ?_
    rw [e7]
    refine kX1_239 ho hN (c_slen _ _ ks hX.1.2.1) dX1_insert_9 ks (by omega) (Nat.le_of_ble_eq_true rfl) (Nat.le_of_ble_eq_true rfl) (Nat.le_of_ble_eq_true rfl) (fun x9 u9 h9 => ?_)
    obtain ⟨rfl, rfl⟩ := h9
    refine z_icmp_gt (tgt := 19) ho dX1_insert_12 (by decide) ri (by unfold rng; omega) (fun c12 => ?_) (fun c12 => ?_)
    · exact t19
    · exact absurd ⟨by omega, by omega⟩ hn
theorem t_insert2 (l : Launch) (hst : l.stackTraces = false) (u : Mem) {x : Nat} {i : Int} {tp fd : List Int} {M : Nat → List KV} {ch : Nat → Int} {VL : List VS} {Ks : List (List Int)} {T : List Int} {Os : List (List Int)} (h : HS u x tp fd M ch VL Ks T Os) (h0 : 0 ≤ i) (h1 : i ≤ T.length) (h2 : 120 < T.length + tp.length) : Th_ l yX1_insert cX1_insert 3 (some .int) 22 2372 14199 [aR x, aI i] u (qTh 21 x u [] fd M ch VL Ks T Os) := by
  have hF := h.2.1
  have hX := h.2.2.2.2.2.2.2
  have kx := hF.1
  have e7 := hF.2.2.2.2.2.2.2.2.1
  have ks := hX.1.1.1.1
  have hT := hX.1.2.2.1
  refine Th_of (by decide) (Nat.le_of_ble_eq_true rfl) (fun X ho hT hX hN => ?_)
  subst hX
  show Z X 0 [some (aR x), some (aI i), none] [] u 0 0
  refine z_wf (fun hw => ?_)
  refine z_iload_n ho dX1_insert_0 rfl ?_
  refine z_if_lt (tgt := 19) ho dX1_insert_1 (by decide) (by unfold rng; omega) (fun c1 => ?_) (fun c1 => ?_)
  · omega
  · 
    refine z_iload_n ho dX1_insert_4 rfl ?_
    refine z_aload_n ho dX1_insert_5 rfl ?_
    refine gX1_53 ho dX1_insert_6 kx ?_
    rw [e7]
    refine kX1_239 ho hN (c_slen _ _ ks hX.1.2.1) dX1_insert_9 ks (by omega) (Nat.le_of_ble_eq_true rfl) (Nat.le_of_ble_eq_true rfl) (Nat.le_of_ble_eq_true rfl) (fun x9 u9 h9 => ?_)
    obtain ⟨rfl, rfl⟩ := h9
    refine z_icmp_gt (tgt := 19) ho dX1_insert_12 (by decide) (by unfold rng; omega) (by unfold rng; omega) (fun c12 => ?_) (fun c12 => ?_)
    · omega
    · 
      refine z_iconst ho dX1_insert_15 ?_
      refine z_goto (tgt := 20) ho dX1_insert_16 (by decide) ?_
      refine kX1_76 ho hN (c_need _ _) dX1_insert_20 (by omega) (Nat.le_of_ble_eq_true rfl) (Nat.le_of_ble_eq_true rfl) (Nat.le_of_ble_eq_true rfl) (fun u20 h20 => ?_)
      obtain rfl := h20
      refine z_aload_n ho dX1_insert_23 rfl ?_
      refine kX1_95 ho hN (c_use _ _ h) dX1_insert_24 kx (by omega) (Nat.le_of_ble_eq_true rfl) (Nat.le_of_ble_eq_true rfl) (Nat.le_of_ble_eq_true rfl) (fun x24 u24 h24 => ?_)
      obtain ⟨rfl, u2, u3, u4, u5, u6⟩ := h24
      refine z_wf (fun hw1 => ?_)
      have M1 : MR x u u24 := ⟨by omega, fun a q1 q2 => u6 a (by omega) (by omega) (by omega)⟩
      have X1 := u3.2.2.2.2.2.2.2
      have F1 := u3.2.1
      have ks1 := X1.1.1.1.1
      have en : iv_ u24 (x + 28) 1 = tp.length := by rw [← u2.1.tx_len, u2.2.2]
      have htp := u2.1.Tx.1
      rw [u2.2.2] at htp
      refine z_astore_n ho dX1_insert_27 (Nat.le_of_ble_eq_true rfl) rfl ?_
      refine z_aload_n ho dX1_insert_28 rfl ?_
      refine gX1_53 ho dX1_insert_29 F1.1 ?_
      rw [F1.2.2.2.2.2.2.2.2.1]
      refine kX1_239 ho hN (c_slen _ _ ks1 X1.1.2.1) dX1_insert_32 ks1 (by omega) (Nat.le_of_ble_eq_true rfl) (Nat.le_of_ble_eq_true rfl) (Nat.le_of_ble_eq_true rfl) (fun x32 u32 h32 => ?_)
      obtain ⟨rfl, rfl⟩ := h32
      refine z_aload_n ho dX1_insert_35 rfl ?_
      refine gX1_84 ho dX1_insert_36 u2.1.1 ?_
      rw [en]
      refine z_iadd ho dX1_insert_39 ?_
      refine z_bipush ho dX1_insert_40 rfl ?_
      refine z_icmp_le (tgt := 55) ho dX1_insert_42 (by decide) (by unfold rng; omega) (by unfold rng; omega) (fun c42 => ?_) (fun c42 => ?_)
      · omega
      · 
        refine tx_21 ho hT hst hN (sidx := 242) (tx := "too long") (by simp [nestS_]) dX1_insert_45 dX1_insert_48 dX1_insert_49 dX1_insert_51 dX1_insert_54 (by omega) (by omega) (Nat.le_of_ble_eq_true rfl) (Nat.le_of_ble_eq_true rfl) ?_
        exact qTh_tr M1 (qTh_ex u3 hw1 ⟨rfl, rfl⟩)
theorem c_found (l : Launch) (u : Mem) {x : Nat} {i : Int} {tp fd : List Int} {M : Nat → List KV} {ch : Nat → Int} {VL : List VS} {Ks : List (List Int)} {T : List Int} {Os : List (List Int)} (h : HS u x tp fd M ch VL Ks T Os) (ri : rng i) : Mt_ l yX1_found cX1_found 2 (some .int) 0 0 0 [aR x, aI i] u (qI fun r v => u = v ∧ r = if i = -1 then (fd.length : Int) else if 0 ≤ i ∧ i < fd.length then _root_.Jvm.Pilot.CKeyHallLaw_law_r3948_e91dda.ch fd i else -1) := by
  have kx := h.2.1.1
  have e5 := h.2.1.2.2.2.2.2.2.1
  have hf := h.2.2.2.1
  have en : iv_ u (x + 13) 1 = fd.length := by rw [← hf.1.tx_len, hf.2.2]
  have hl := hf.1.Tx.1
  rw [hf.2.2] at hl
  refine Mt_of (by decide) (Nat.le_of_ble_eq_true rfl) (fun X ho hX hN hI => ?_)
  subst hX
  show Z X 0 [some (aR x), some (aI i)] [] u 0 0
  refine z_iload_n ho dX1_found_0 rfl ?_
  refine z_iconst ho dX1_found_1 ?_
  refine z_icmp_ne (tgt := 15) ho dX1_found_2 (by decide) ri (by unfold rng; omega) (fun c2 => ?_) (fun c2 => ?_)
  · have no : ¬ (0 ≤ i ∧ i < fd.length) → Z X 30 [some (aR x), some (aI i)] [] u 0 0 := fun hn => by
      refine z_iconst ho dX1_found_30 ?_
      refine z_goto (tgt := 43) ho dX1_found_31 (by decide) ?_
      refine r_I ho dX1_found_43 (Nat.le_of_ble_eq_true rfl) (Nat.le_of_ble_eq_true rfl) ?_
      exact ⟨rfl, by rw [if_neg c2, if_neg hn]⟩
    refine z_iload_n ho dX1_found_15 rfl ?_
    refine z_if_lt (tgt := 30) ho dX1_found_16 (by decide) ri (fun c16 => ?_) (fun c16 => ?_)
    · exact no (by omega)
    · 
      refine z_iload_n ho dX1_found_19 rfl ?_
      refine z_aload_n ho dX1_found_20 rfl ?_
      refine gX1_40 ho dX1_found_21 kx ?_
      rw [e5]
      refine gX1_84 ho dX1_found_24 hf.1.1 ?_
      rw [en]
      refine z_icmp_lt (tgt := 34) ho dX1_found_27 (by decide) ri (by unfold rng; omega) (fun c27 => ?_) (fun c27 => ?_)
      · 
        have hc : iv_ u (x + 13 + 1) i = _root_.Jvm.Pilot.CKeyHallLaw_law_r3948_e91dda.ch fd i := by
          rw [← hf.2.2]
          exact (hf.1.tx_ch (by omega) (by omega)).symm
        refine z_aload_n ho dX1_found_34 rfl ?_
        refine gX1_40 ho dX1_found_35 kx ?_
        rw [e5]
        refine gX1_87 ho dX1_found_38 hf.1.1 ?_
        rw [hf.1.2.1]
        refine z_iload_n ho dX1_found_41 rfl ?_
        refine z_cald ho dX1_found_42 hf.1.2.2.1 (by omega) (by rw [hf.1.2.2.2.1]; omega) ?_
        rw [hc]
        refine r_I ho dX1_found_43 (Nat.le_of_ble_eq_true rfl) (Nat.le_of_ble_eq_true rfl) ?_
        exact ⟨rfl, by rw [if_neg c2, if_pos ⟨by omega, c27⟩]⟩
      · exact no (by omega)
  · 
    refine z_aload_n ho dX1_found_5 rfl ?_
    refine gX1_40 ho dX1_found_6 kx ?_
    rw [e5]
    refine gX1_84 ho dX1_found_9 hf.1.1 ?_
    rw [en]
    refine z_goto (tgt := 43) ho dX1_found_12 (by decide) ?_
    refine r_I ho dX1_found_43 (Nat.le_of_ble_eq_true rfl) (Nat.le_of_ble_eq_true rfl) ?_
    exact ⟨rfl, by rw [if_pos c2]⟩
/-- how many keys of a list are in a range -/
noncomputable def cntV (R : List Int → Prop) (L : List KV) : Nat := (L.filter (fun kv => @decide (R kv.1) (Classical.propDecidable _))).length
/-- a view of the hall -/
theorem HS.view {u : Mem} {x j : Nat} {tp fd : List Int} {M : Nat → List KV} {ch : Nat → Int} {VL : List VS} {Ks : List (List Int)} {T : List Int} {Os : List (List Int)} {vs : VS} (h : HS u x tp fd M ch VL Ks T Os) (hj : VL[j]? = some vs) : ∃ S, HT u x S M ch ∧ HV u x S ch VL ∧ HV1 u x S ch (rv_ u (x + 3) (j : Int)) vs ∧ (S vs.1).length ≤ 39 := by
  obtain ⟨⟨-, g2⟩, -, -, -, -, ⟨S, hT, hV⟩, -⟩ := h
  have q := hV.1 j vs hj
  refine ⟨S, hT, hV, q, ?_⟩
  have h3 := (hT.2.1 vs.1 q.2.1).2.2.2.2.1
  have := (g2.1 vs.1 q.2.1).1
  rw [h3, List.length_map] at this
  exact this
theorem Rl.cnt {u : Mem} {S R : List Nat} {lo hi : Option (List Int)} {P : List Int → Prop} {L : List KV} (h : Rl u S lo hi R) (hnd : S.Nodup) (hen : ∀ e ∈ S, En u e) (hP : ∀ s, Tx s → (inR lo hi s ↔ P s)) (hL : L = S.map (fun e => (tx u e, iv_ u e 2))) : R.length = cntV P L := by
  unfold cntV
  rw [hL, List.filter_map, List.length_map]
  refine List.Perm.length_eq ((List.perm_ext_iff_of_nodup (sorted_nd h.1) (hnd.filter _)).mpr (fun e => ?_))
  rw [h.2 e, List.mem_filter]
  constructor
  · rintro ⟨q1, q2⟩
    exact ⟨q1, by simpa using (hP _ (hen e q1).1.Tx).mp q2⟩
  · rintro ⟨q1, q2⟩
    exact ⟨q1, (hP _ (hen e q1).1.Tx).mpr (by simpa using q2)⟩
theorem c_hsize (l : Launch) (u : Mem) {x : Nat} {i : Int} {tp fd : List Int} {M : Nat → List KV} {ch : Nat → Int} {VL : List VS} {Ks : List (List Int)} {T : List Int} {Os : List (List Int)} (h : HS u x tp fd M ch VL Ks T Os) (ri : rng i) : Mt_ l yX1_size cX1_size 2 (some .int) 1103 0 0 [aR x, aI i] u (qI fun r v => u = v ∧ ((¬ (0 ≤ i ∧ i < VL.length) ∧ r = -1) ∨ (∃ vs, 0 ≤ i ∧ VL[i.toNat]? = some vs ∧ r = cntV vs.2.1 (M vs.1)))) := by
  obtain ⟨kx, q0, q1, q2, q3, q4, q5, q6, q7, q8, kv, lv, hn⟩ := h.2.1
  refine Mt_of (by decide) (Nat.le_of_ble_eq_true rfl) (fun X ho hX hN hI => ?_)
  subst hX
  show Z X 0 [some (aR x), some (aI i)] [] u 0 0
  have no : ¬ (0 ≤ i ∧ i < VL.length) → Z X 12 [some (aR x), some (aI i)] [] u 0 0 := fun hn => by
    refine z_iconst ho dX1_size_12 ?_
    refine z_goto (tgt := 25) ho dX1_size_13 (by decide) ?_
    refine r_I ho dX1_size_25 (Nat.le_of_ble_eq_true rfl) (Nat.le_of_ble_eq_true rfl) ?_
    exact ⟨rfl, Or.inl ⟨hn, rfl⟩⟩
  refine z_iload_n ho dX1_size_0 rfl ?_
  refine z_if_lt (tgt := 12) ho dX1_size_1 (by decide) ri (fun c1 => ?_) (fun c1 => ?_)
  · exact no (by omega)
  · 
    refine z_iload_n ho dX1_size_4 rfl ?_
    refine z_aload_n ho dX1_size_5 rfl ?_
    refine gX1_22 ho dX1_size_6 kx ?_
    rw [q2]
    refine z_icmp_lt (tgt := 16) ho dX1_size_9 (by decide) ri (by unfold rng; omega) (fun c9 => ?_) (fun c9 => ?_)
    · have hvs : VL[i.toNat]? = some VL[i.toNat] := List.getElem?_eq_getElem (by omega)
      generalize VL[i.toNat] = vs at hvs
      obtain ⟨S, hT, hV, hv, hSl⟩ := h.view hvs
      rw [Int.toNat_of_nonneg (by omega)] at hv
      obtain ⟨v1, v2, ⟨lo, hi, hVw, hR⟩, -⟩ := hv
      obtain ⟨g1, g2, g3, g4, g5, g6⟩ := hT.2.1 vs.1 v2
      refine z_aload_n ho dX1_size_16 rfl ?_
      refine gX1_18 ho dX1_size_17 kx ?_
      rw [q1]
      refine z_iload_n ho dX1_size_20 rfl ?_
      refine z_aald ho dX1_size_21 (by decide) (show kd_ u (x + 3) = 106 from kv) (by omega) (by omega) ?_
      refine kX1_161 ho hN (c_size _ _ hVw g1 g2 (by omega)) dX1_size_22 hVw.1 (by omega) (Nat.le_of_ble_eq_true rfl) (Nat.le_of_ble_eq_true rfl) (Nat.le_of_ble_eq_true rfl) (fun x22 u22 h22 => ?_)
      obtain ⟨rfl, R, r1, r2⟩ := h22
      refine r_I ho dX1_size_25 (Nat.le_of_ble_eq_true rfl) (Nat.le_of_ble_eq_true rfl) ?_
      exact ⟨rfl, Or.inr ⟨vs, by omega, hvs, by rw [r2, r1.cnt g4 (fun e he => g1.en e he) hR g5]⟩⟩
    · exact no (by omega)
