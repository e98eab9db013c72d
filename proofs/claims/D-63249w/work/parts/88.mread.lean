set_option maxRecDepth 100000
/-! ===== KeyHallModel: view, size, found, iterate, stale, tell ===== -/
theorem ivw {u v : Mem} {b : Nat} {i x : Int} (h : iv_ u b = iv_ v b) : iv_ (wI_ u b i x) b = iv_ (wI_ v b i x) b := by funext j; rw [iv_wI, iv_wI, h]
theorem MVw.snoc {of of' so so' tl tl' te te' : Int → Int} {VL : List VS} {b : Nat} {vb : VS} {w : Int} {t : List Int} (h : MVw of so tl te VL) (h3 : 3 ≤ VL.length) (hb : VL[b]? = some vb) (ht : Tx t) (w0 : 0 ≤ w) (w4 : w < 4) (o1 : ∀ j : Int, j ≠ VL.length → of' j = of j) (o2 : of' (VL.length : Int) = (b : Int)) (s1 : ∀ j : Int, j ≠ VL.length → so' j = so j) (s2 : so' (VL.length : Int) = w) (l1 : ∀ j : Int, j ≠ VL.length → tl' j = tl j) (l2 : tl' (VL.length : Int) = (t.length : Int)) (e1 : ∀ j : Int, j < 8 * (VL.length : Int) → te' j = te j) (e2 : sub_ te' (8 * (VL.length : Int)) t.length = t) : MVw of' so' tl' te' (VL ++ [vwN vb w t]) := by
  intro j vs hj
  have hbl := (List.getElem?_eq_some_iff.mp hb).1
  by_cases z : j < VL.length
  · rw [List.getElem?_append_left z] at hj
    obtain ⟨q1, q2, q3⟩ := h j vs hj
    refine ⟨q1, q2, ?_⟩
    rcases q3 with ⟨p1, p2, p3⟩ | ⟨p1, b', vb', t', p2, p3, p4, p5, p6, p7, p8, p9, p10, p11⟩
    · exact Or.inl ⟨p1, by rw [o1 _ (by omega)]; exact p2, p3⟩
    · refine Or.inr ⟨p1, b', vb', t', p2, by rw [o1 _ (by omega)]; exact p3, by rw [List.getElem?_append_left (by omega)]; exact p4, by rw [s1 _ (by omega)]; exact p5, by rw [l1 _ (by omega)]; exact p6, ?_, p8, p9, by rw [s1 _ (by omega)]; exact p10, by rw [s1 _ (by omega)]; exact p11⟩
      conv => rhs; rw [← p7]
      have := p8.1
      exact sub_ext (fun y y0 y1 => e1 _ (by omega))
  · have hjl := (List.getElem?_eq_some_iff.mp hj).1
    rw [List.length_append] at hjl
    simp at hjl
    have hje : j = VL.length := by omega
    subst hje
    rw [List.getElem?_concat_length] at hj
    cases hj
    obtain ⟨q1, q2, -⟩ := h b vb hb
    refine ⟨q1, ?_, Or.inr ⟨h3, b, vb, t, hbl, o2, by rw [List.getElem?_append_left hbl]; exact hb, by rw [s2]; exact ⟨w0, w4⟩, l2, e2, ht, rfl, fun s => by rw [s2]; rfl, by rw [s2]; rfl⟩⟩
    show (if w = 3 then 1 - vb.2.2.1 else vb.2.2.1) = 0 ∨ (if w = 3 then 1 - vb.2.2.1 else vb.2.2.1) = 1
    split <;> omega
theorem MIt.snoc {u : Mem} {m : Nat} {VL : List VS} {vb : VS} {w : Int} {t : List Int} (h : MIt u m VL) (h12 : VL.length < 12) : MIt u m (VL ++ [vwN vb w t]) := by
  refine ⟨fun j vs hj => ?_, fun j j1 j2 => h.2 j (by rw [List.length_append] at j1; omega) j2⟩
  by_cases z : j < VL.length
  · rw [List.getElem?_append_left z] at hj
    exact h.1 j vs hj
  · have hjl := (List.getElem?_eq_some_iff.mp hj).1
    rw [List.length_append] at hjl
    simp at hjl
    have hje : j = VL.length := by omega
    subst hje
    rw [List.getElem?_concat_length] at hj
    cases hj
    obtain ⟨q1, q2, q3, q4⟩ := h.2 VL.length (Nat.le_refl _) h12
    exact ⟨⟨q1, Or.inl rfl⟩, ⟨q4, by show rng 0; unfold rng; omega⟩, Or.inl ⟨q2, rfl⟩, q3, Or.inl rfl⟩
theorem c_mview (l : Launch) (u : Mem) {m N : Nat} {i w : Int} {tp fd : List Int} {M : Nat → List KV} {ch : Nat → Int} {VL : List VS} {Ks : List (List Int)} {T : List Int} {Os : List (List Int)} (h : MS u m N tp fd M ch VL Ks T Os) (h3 : 3 ≤ VL.length) (ri : rng i) (rw_ : rng w) :
    Mt_ l yX13_view cX13_view 6 (some .int) 2 0 0 [aR m, aI i, aI w] u (qI fun r v => ((¬ (0 ≤ i ∧ i < VL.length) ∨ ¬ (0 ≤ w ∧ w < 4)) ∧ qM m N u 1 tp fd M ch VL Ks T Os v) ∨ (∃ vs, 0 ≤ i ∧ VL[i.toNat]? = some vs ∧ 0 ≤ w ∧ w < 4 ∧ ((VL.length = 12 ∧ r = -1 ∧ qM m N u 0 [] fd M ch VL Ks T Os v) ∨ (VL.length < 12 ∧ r = VL.length ∧ qM m N u 0 [] fd M ch (VL ++ [vwN vs w tp]) Ks T Os v)))) := by
  have hm := h.1
  have h8 := h.2.2.2.2.1.1
  have h12 := h.2.2.2.2.1.2.1
  refine Mt_of (by decide) (Nat.le_of_ble_eq_true rfl) (fun X ho hX hN hI => ?_)
  subst hX
  show Z X 0 [some (aR m), some (aI i), some (aI w), none, none, none] [] u 0 0
  have bad : (¬ (0 ≤ i ∧ i < (VL.length : Int)) ∨ ¬ (0 ≤ w ∧ w < 4)) → Z X 17 [some (aR m), some (aI i), some (aI w), none, none, none] [] u 0 0 := fun hb => by
    refine z_aload_n ho dX13_view_17 rfl ?_
    refine z_iconst ho dX13_view_18 ?_
    refine kX13_126 ho hN (c_raise _ _ hm) dX13_view_19 hm.1 (Nat.le_of_ble_eq_true rfl) (Nat.le_of_ble_eq_true rfl) (Nat.le_of_ble_eq_true rfl) (Nat.le_of_ble_eq_true rfl) (fun x19 u19 h19 => ?_)
    obtain ⟨rfl, rfl⟩ := h19
    refine r_I ho dX13_view_22 (Nat.le_of_ble_eq_true rfl) (Nat.le_of_ble_eq_true rfl) ?_
    exact Or.inl ⟨hb, qM_raise h⟩
  refine z_aload_n ho dX13_view_0 rfl ?_
  refine z_iload_n ho dX13_view_1 rfl ?_
  refine kX13_122 ho hN (c_isView _ _ hm h8 h12 ri) dX13_view_2 hm.1 (Nat.le_of_ble_eq_true rfl) (Nat.le_of_ble_eq_true rfl) (Nat.le_of_ble_eq_true rfl) (Nat.le_of_ble_eq_true rfl) (fun x2 u2 h2 => ?_)
  obtain ⟨rfl, hs⟩ := h2
  refine z_if_eq (tgt := 17) ho dX13_view_5 (by decide) (by rcases hs with ⟨z, -⟩ | ⟨z, -⟩ <;> rw [z] <;> unfold rng <;> omega) (fun c5 => ?_) (fun c5 => ?_)
  · exact bad (Or.inl (hs.resolve_left (fun z => by omega)).2)
  · have hin := (hs.resolve_right (fun z => c5 z.1)).2
    refine z_iload_n ho dX13_view_8 rfl ?_
    refine z_if_lt (tgt := 17) ho dX13_view_9 (by decide) rw_ (fun c9 => ?_) (fun c9 => ?_)
    · exact bad (Or.inr (by omega))
    · 
      refine z_iload_n ho dX13_view_12 rfl ?_
      refine z_iconst ho dX13_view_13 ?_
      refine z_icmp_le (tgt := 23) ho dX13_view_14 (by decide) rw_ (by unfold rng; omega) (fun c14 => ?_) (fun c14 => ?_)
      · have hvs : VL[i.toNat]? = some VL[i.toNat] := List.getElem?_eq_getElem (by omega)
        generalize VL[i.toNat] = vs at hvs
        have ei : (i.toNat : Int) = i := Int.toNat_of_nonneg hin.1
        have htx := h.2.1.2.2
        have tl := htx.1
        have e2 : iv_ (wI_ u m 0 0) m 2 = (tp.length : Int) := by rw [iv_wI, if_neg (by omega)]; exact h.2.1.1
        have e8 : iv_ (wI_ (wI_ u m 0 0) m 2 0) m 8 = (VL.length : Int) := by rw [iv_wI, if_neg (by omega), iv_wI, if_neg (by omega)]; exact h8
        have HQ : qM m N u 0 [] fd M ch VL Ks T Os (wI_ (wI_ u m 0 0) m 2 0) := ⟨((Im.rf m u).w0 0 0).w0 2 0, by rw [iv_wI, if_neg (by omega), iv_wI, if_pos ⟨rfl, rfl⟩], h.cgt (((Cg.rf m u _ _).f 0 0 (by decide)).f 2 0 (by decide)) (by rw [iv_wI, if_pos ⟨rfl, rfl⟩])⟩
        refine z_aload_n ho dX13_view_23 rfl ?_
        refine z_iconst ho dX13_view_24 ?_
        refine pX13_99 ho dX13_view_25 hm.1  ?_
        refine z_aload_n ho dX13_view_28 rfl ?_
        refine gX13_102 ho dX13_view_29 hm.1 ?_
        refine z_istore_n ho dX13_view_32 (Nat.le_of_ble_eq_true rfl) rfl ?_
        rw [e2]
        refine z_aload_n ho dX13_view_33 rfl ?_
        refine z_iconst ho dX13_view_34 ?_
        refine pX13_102 ho dX13_view_35 hm.1  ?_
        refine z_aload_n ho dX13_view_38 rfl ?_
        refine gX13_28 ho dX13_view_39 hm.1 ?_
        refine z_bipush ho dX13_view_42 rfl ?_
        refine z_icmp_ne (tgt := 49) ho dX13_view_44 (by decide) (by rw [e8]; unfold rng; omega) (by unfold rng; omega) (fun c44 => ?_) (fun c44 => ?_)
        · have c1 : Cg m u (wI_ (wI_ u m 0 0) m 2 0) [0, 2, 8] [7, 8, 9, 10] := ((Cg.rf m u _ _).f 0 0 (by decide)).f 2 0 (by decide)
          rw [e8] at c44
          generalize wI_ (wI_ u m 0 0) m 2 0 = w1 at *
          have hm1 := hm.im c1.1
          refine z_aload_n ho dX13_view_49 rfl ?_
          refine gX13_28 ho dX13_view_50 hm1.1 ?_
          refine z_istore ho dX13_view_53 (Nat.le_of_ble_eq_true rfl) rfl ?_
          refine z_aload_n ho dX13_view_55 rfl ?_
          refine z_dup ho dX13_view_56 rfl ?_
          refine gX13_28 ho dX13_view_57 hm1.1 ?_
          refine z_iconst ho dX13_view_60 ?_
          refine z_iadd ho dX13_view_61 ?_
          refine pX13_28 ho dX13_view_62 hm1.1  ?_
          rw [e8]
          refine z_aload_n ho dX13_view_65 rfl ?_
          refine gX13_32 ho dX13_view_66 hm1.1 (mget hm1.r9 ?_)
          refine z_iload ho dX13_view_69 rfl ?_
          refine z_iload_n ho dX13_view_71 rfl ?_
          refine z_iast ho dX13_view_72 hm1.k7 (by omega) (hm1.t7 (by omega)) ?_
          refine z_aload_n ho dX13_view_73 rfl ?_
          refine gX13_35 ho dX13_view_74 hm1.1 (mget hm1.r10 ?_)
          refine z_iload ho dX13_view_77 rfl ?_
          refine z_iload_n ho dX13_view_79 rfl ?_
          refine z_iast ho dX13_view_80 hm1.k8 (by omega) (hm1.t8 (by omega)) ?_
          refine z_aload_n ho dX13_view_81 rfl ?_
          refine gX13_38 ho dX13_view_82 hm1.1 (mget hm1.r11 ?_)
          refine z_iload ho dX13_view_85 rfl ?_
          refine z_iload_n ho dX13_view_87 rfl ?_
          refine z_iast ho dX13_view_88 hm1.k9 (by omega) (hm1.t9 (by omega)) ?_
          refine z_iconst ho dX13_view_89 ?_
          refine z_istore ho dX13_view_90 (Nat.le_of_ble_eq_true rfl) rfl ?_
          have c2 : Cg m u (wI_ (wI_ (wI_ (wI_ w1 m 8 ((VL.length : Int) + 1)) (m + 7) (VL.length : Int) i) (m + 8) (VL.length : Int) w) (m + 9) (VL.length : Int) (tp.length : Int)) [0, 2, 8] [7, 8, 9, 10] := (((c1.f 8 _ (by decide)).a 7 _ _ (by decide) (by decide) (by decide)).a 8 _ _ (by decide) (by decide) (by decide)).a 9 _ _ (by decide) (by decide) (by decide)
          have f7 : iv_ (wI_ (wI_ (wI_ (wI_ w1 m 8 ((VL.length : Int) + 1)) (m + 7) (VL.length : Int) i) (m + 8) (VL.length : Int) w) (m + 9) (VL.length : Int) (tp.length : Int)) (m + 7) = iv_ (wI_ w1 (m + 7) (VL.length : Int) i) (m + 7) := by rw [ivf (by omega), ivf (by omega)]; exact ivw (by rw [ivf (by omega)])
          have f8 : iv_ (wI_ (wI_ (wI_ (wI_ w1 m 8 ((VL.length : Int) + 1)) (m + 7) (VL.length : Int) i) (m + 8) (VL.length : Int) w) (m + 9) (VL.length : Int) (tp.length : Int)) (m + 8) = iv_ (wI_ w1 (m + 8) (VL.length : Int) w) (m + 8) := by rw [ivf (by omega)]; exact ivw (by rw [ivf (by omega), ivf (by omega)])
          have f9 : iv_ (wI_ (wI_ (wI_ (wI_ w1 m 8 ((VL.length : Int) + 1)) (m + 7) (VL.length : Int) i) (m + 8) (VL.length : Int) w) (m + 9) (VL.length : Int) (tp.length : Int)) (m + 9) = iv_ (wI_ w1 (m + 9) (VL.length : Int) (tp.length : Int)) (m + 9) := by exact ivw (by rw [ivf (by omega), ivf (by omega), ivf (by omega)])
          have f10 : iv_ (wI_ (wI_ (wI_ (wI_ w1 m 8 ((VL.length : Int) + 1)) (m + 7) (VL.length : Int) i) (m + 8) (VL.length : Int) w) (m + 9) (VL.length : Int) (tp.length : Int)) (m + 10) = iv_ w1 (m + 10) := by rw [ivf (by omega), ivf (by omega), ivf (by omega), ivf (by omega)]
          have g0 : iv_ (wI_ (wI_ (wI_ (wI_ w1 m 8 ((VL.length : Int) + 1)) (m + 7) (VL.length : Int) i) (m + 8) (VL.length : Int) w) (m + 9) (VL.length : Int) (tp.length : Int)) m 0 = 0 := by rw [ivf (by omega), ivf (by omega), ivf (by omega), iv_wI, if_neg (by omega)]; exact HQ.2.1
          have g2 : iv_ (wI_ (wI_ (wI_ (wI_ w1 m 8 ((VL.length : Int) + 1)) (m + 7) (VL.length : Int) i) (m + 8) (VL.length : Int) w) (m + 9) (VL.length : Int) (tp.length : Int)) m 2 = 0 := by rw [ivf (by omega), ivf (by omega), ivf (by omega), iv_wI, if_neg (by omega)]; exact HQ.2.2.2.1.1
          have g8 : iv_ (wI_ (wI_ (wI_ (wI_ w1 m 8 ((VL.length : Int) + 1)) (m + 7) (VL.length : Int) i) (m + 8) (VL.length : Int) w) (m + 9) (VL.length : Int) (tp.length : Int)) m 8 = (VL.length : Int) + 1 := by rw [ivf (by omega), ivf (by omega), ivf (by omega), iv_wI, if_pos ⟨rfl, rfl⟩]
          generalize wI_ (wI_ (wI_ (wI_ w1 m 8 ((VL.length : Int) + 1)) (m + 7) (VL.length : Int) i) (m + 8) (VL.length : Int) w) (m + 9) (VL.length : Int) (tp.length : Int) = w2 at *
          have hm2 := hm.im c2.1
          have x1 : iv_ w2 (m + 1) = iv_ u (m + 1) := c2.2.2 1 (by decide) (by decide)
          have key : ∀ (d n : Nat), d + n = tp.length → Z X 92 [some (aR m), some (aI i), some (aI w), some (aI tp.length), some (aI (VL.length : Int)), some (aI (n : Int))] [] (cpA w2 (m + 10) (m + 1) (8 * (VL.length : Int)) 0 n) 0 0 := by
            intro d
            induction d with
            | zero =>
              intro n hn
              have hnl : n = tp.length := by omega
              have c3 : Cg m u (cpA w2 (m + 10) (m + 1) (8 * (VL.length : Int)) 0 n) [0, 2, 8] [7, 8, 9, 10] := cpA_cg c2 (by decide) (by decide) (by decide)
              have t4 := cpA_sub (u := w2) (a := m + 10) (b := m + 1) (d := 8 * (VL.length : Int)) (s := 0) (t := tp) (by rw [x1]; exact h.2.1.2.1)
              have oth : ∀ c, c ≠ m + 10 → iv_ (cpA w2 (m + 10) (m + 1) (8 * (VL.length : Int)) 0 n) c = iv_ w2 c := fun c hc => cpA_o hc
              have o10 : ∀ j : Int, j < 8 * (VL.length : Int) → iv_ (cpA w2 (m + 10) (m + 1) (8 * (VL.length : Int)) 0 n) (m + 10) j = iv_ w1 (m + 10) j := fun j hj => by rw [cpA_iv, if_neg (by omega), f10]
              rw [← hnl] at t4
              generalize cpA w2 (m + 10) (m + 1) (8 * (VL.length : Int)) 0 n = w3 at *
              refine z_iload ho dX13_view_92 rfl ?_
              refine z_iload_n ho dX13_view_94 rfl ?_
              refine z_icmp_ge (tgt := 124) ho dX13_view_95 (by decide) (by unfold rng; omega) (by unfold rng; omega) (fun c95 => ?_) (fun c95 => ?_)
              · 
                refine z_iload ho dX13_view_124 rfl ?_
                refine r_I ho dX13_view_126 (Nat.le_of_ble_eq_true rfl) (Nat.le_of_ble_eq_true rfl) ?_
                obtain ⟨a1, a2, a3, a4, a5, a6, a7, a8, a9⟩ := HQ.2.2
                have hL1 : ∀ j : Int, j ≠ VL.length → ∀ (b : Nat) (y : Int), iv_ (wI_ w1 b (VL.length : Int) y) b j = iv_ w1 b j := fun j hj b y => by rw [iv_wI, if_neg (fun z => hj z.2)]
                have hL2 : ∀ (b : Nat) (y : Int), iv_ (wI_ w1 b (VL.length : Int) y) b (VL.length : Int) = y := fun b y => by rw [iv_wI, if_pos ⟨rfl, rfl⟩]
                have hMV : MV w3 m (VL ++ [vwN vs w tp]) := by
                  refine ⟨by rw [oth _ (by omega), g8, List.length_append]; rfl, by rw [List.length_append]; simp; omega, a5.2.2.snoc h3 hvs htx (by omega) (by omega) ?_ ?_ ?_ ?_ ?_ ?_ o10 ?_⟩
                  · intro j hj; rw [oth _ (by omega), f7]; exact hL1 j hj _ _
                  · rw [oth _ (by omega), f7, hL2]; exact ei.symm
                  · intro j hj; rw [oth _ (by omega), f8]; exact hL1 j hj _ _
                  · rw [oth _ (by omega), f8, hL2]
                  · intro j hj; rw [oth _ (by omega), f9]; exact hL1 j hj _ _
                  · rw [oth _ (by omega), f9, hL2]
                  · rw [← hnl]; exact t4
                obtain ⟨b1, b2, b3, b4, b5, b6, b7, b8, b9⟩ := h
                exact Or.inr ⟨vs, hin.1, hvs, by omega, by omega, Or.inr ⟨by omega, rfl, c3.1, by rw [oth _ (by omega)]; exact g0, hm.im c3.1, MTp.nil (by rw [oth _ (by omega)]; exact g2), b3.cg c3 (by decide) (by decide), b4.cg c3 (by decide), hMV, (b6.cg c3 (by decide)).snoc (by omega), b7.cg c3 (by decide) (by decide), b8.cg c3 (by decide) (by decide), b9⟩⟩
              · omega
            | succ d ih =>
              intro n hn
              have nx := ih (n + 1) (by omega)
              obtain ⟨s1, s2⟩ := cpA_s (u := w2) (a := m + 10) (b := m + 1) (d := 8 * (VL.length : Int)) (s := 0) (by omega) n
              rw [Int.zero_add] at s1 s2
              refine z_iload ho dX13_view_92 rfl ?_
              refine z_iload_n ho dX13_view_94 rfl ?_
              refine z_icmp_ge (tgt := 124) ho dX13_view_95 (by decide) (by unfold rng; omega) (by unfold rng; omega) (fun c95 => ?_) (fun c95 => ?_)
              · omega
              · 
                refine z_aload_n ho dX13_view_98 rfl ?_
                refine gX13_41 ho dX13_view_99 hm2.1 (mget hm2.r12 ?_)
                refine z_bipush ho dX13_view_102 rfl ?_
                refine z_iload ho dX13_view_104 rfl ?_
                refine z_imul ho dX13_view_106 ?_
                refine z_iload ho dX13_view_107 rfl ?_
                refine z_iadd ho dX13_view_109 ?_
                refine z_aload_n ho dX13_view_110 rfl ?_
                refine gX13_7 ho dX13_view_111 hm2.1 (mget hm2.r1 ?_)
                refine z_iload ho dX13_view_114 rfl ?_
                refine z_iald ho dX13_view_116 hm2.k1 (by omega) (hm2.t1 (by omega)) ?_
                refine z_iast ho dX13_view_117 hm2.k10 (by omega) (hm2.t10 (by omega)) ?_
                refine z_iinc ho dX13_view_118 rfl rfl ?_
                refine z_goto (tgt := 92) ho dX13_view_121 (by decide) ?_
                rw [s1, s2]
                exact nx
          have k0 := key tp.length 0 rfl
          rw [show ((0 : Nat) : Int) = 0 from rfl, cpA_0] at k0
          exact k0
        · rw [e8] at c44
          refine z_iconst ho dX13_view_47 ?_
          refine r_I ho dX13_view_48 (Nat.le_of_ble_eq_true rfl) (Nat.le_of_ble_eq_true rfl) ?_
          exact Or.inr ⟨vs, hin.1, hvs, by omega, by omega, Or.inl ⟨by omega, rfl, HQ⟩⟩
      · exact bad (Or.inr (by omega))
/-- how many of the first k keys are such -/
theorem cntV_snoc {P : List Int → Prop} {L : List KV} {k : Nat} {p : KV} (hk : L[k]? = some p) : (P p.1 → cntV P (L.take (k + 1)) = cntV P (L.take k) + 1) ∧ (¬ P p.1 → cntV P (L.take (k + 1)) = cntV P (L.take k)) := by
  unfold cntV
  rw [List.take_add_one, hk, List.filter_append, List.length_append]
  constructor
  · intro h; simp [h]
  · intro h; simp [h]
theorem c_msize (l : Launch) (u : Mem) {m N : Nat} {i : Int} {tp fd : List Int} {M : Nat → List KV} {ch : Nat → Int} {VL : List VS} {Ks : List (List Int)} {T : List Int} {Os : List (List Int)} (h : MS u m N tp fd M ch VL Ks T Os) (ri : rng i) :
    Mt_ l yX13_size cX13_size 4 (some .int) 4 0 0 [aR m, aI i] u (qI fun r v => v = wI_ u m 0 0 ∧ qM m N u 0 tp fd M ch VL Ks T Os v ∧ ((¬ (0 ≤ i ∧ i < VL.length) ∧ r = -1) ∨ (∃ vs, 0 ≤ i ∧ VL[i.toNat]? = some vs ∧ r = (cntV vs.2.1 (M vs.1) : Nat)))) := by
  have H0 := h.cgc (v := wI_ u m 0 0) ((Cg.rf m u _ _).f 0 0 (by decide))
  have HQ : qM m N u 0 tp fd M ch VL Ks T Os (wI_ u m 0 0) := qM_raise h
  have hm := H0.1
  have hm0 := h.1
  refine Mt_of (by decide) (Nat.le_of_ble_eq_true rfl) (fun X ho hX hN hI => ?_)
  subst hX
  show Z X 0 [some (aR m), some (aI i), none, none] [] u 0 0
  refine z_aload_n ho dX13_size_0 rfl ?_
  refine z_iconst ho dX13_size_1 ?_
  refine pX13_99 ho dX13_size_2 hm0.1  ?_
  refine z_aload_n ho dX13_size_5 rfl ?_
  refine z_iload_n ho dX13_size_6 rfl ?_
  refine kX13_122 ho hN (c_isView _ _ hm H0.2.2.2.2.1.1 H0.2.2.2.2.1.2.1 ri) dX13_size_7 hm0.1 (Nat.le_of_ble_eq_true rfl) (Nat.le_of_ble_eq_true rfl) (Nat.le_of_ble_eq_true rfl) (Nat.le_of_ble_eq_true rfl) (fun x7 u7 h7 => ?_)
  obtain ⟨rfl, hs⟩ := h7
  refine z_if_ne (tgt := 15) ho dX13_size_10 (by decide) (by rcases hs with ⟨z, -⟩ | ⟨z, -⟩ <;> rw [z] <;> unfold rng <;> omega) (fun c10 => ?_) (fun c10 => ?_)
  · have hin := (hs.resolve_right (fun z => c10 z.1)).2
    have hvs : VL[i.toNat]? = some VL[i.toNat] := List.getElem?_eq_getElem (by omega)
    generalize VL[i.toNat] = vs at hvs
    have ei : (i.toNat : Int) = i := Int.toNat_of_nonneg hin.1
    have v3 := (h.2.2.2.2.1.2.2 _ vs hvs).1
    have hmo := c_mapOf (La_ X) (wI_ u m 0 0) hm H0.2.2.2.2.1 hvs
    rw [ei] at hmo
    obtain ⟨g1, g2, g3, -⟩ := H0.2.2.2.1 vs.1 v3
    have key : ∀ (d k : Nat), d + k = (M vs.1).length → Z X 19 [some (aR m), some (aI i), some (aI (cntV vs.2.1 ((M vs.1).take k) : Nat)), some (aI (k : Int))] [] (wI_ u m 0 0) 0 0 := by
      intro d
      induction d with
      | zero =>
        intro k hk
        refine z_iload_n ho dX13_size_19 rfl ?_
        refine z_aload_n ho dX13_size_20 rfl ?_
        refine gX13_13 ho dX13_size_21 hm.1 (mget hm.r3 ?_)
        refine z_aload_n ho dX13_size_24 rfl ?_
        refine z_iload_n ho dX13_size_25 rfl ?_
        refine kX13_114 ho hN (hmo) dX13_size_26 hm.1 (Nat.le_of_ble_eq_true rfl) (Nat.le_of_ble_eq_true rfl) (Nat.le_of_ble_eq_true rfl) (Nat.le_of_ble_eq_true rfl) (fun x26 u26 h26 => ?_)
        obtain ⟨rfl, rfl⟩ := h26
        refine z_iald ho dX13_size_29 hm.k2 (by omega) (hm.t2 (by omega)) ?_
        refine z_icmp_ge (tgt := 56) ho dX13_size_30 (by decide) (by unfold rng; omega) (by rw [g1]; unfold rng; omega) (fun c30 => ?_) (fun c30 => ?_)
        · 
          refine z_iload_n ho dX13_size_56 rfl ?_
          refine r_I ho dX13_size_57 (Nat.le_of_ble_eq_true rfl) (Nat.le_of_ble_eq_true rfl) ?_
          refine ⟨rfl, HQ, Or.inr ⟨vs, hin.1, hvs, ?_⟩⟩
          rw [List.take_of_length_le (by omega)]
        · omega
      | succ d ih =>
        intro k hk
        have hkp : (M vs.1)[k]? = some (M vs.1)[k] := List.getElem?_eq_getElem (by omega)
        generalize (M vs.1)[k] = p at hkp
        obtain ⟨n1, n2⟩ := cntV_snoc (P := vs.2.1) hkp
        have nx := ih (k + 1) (by omega)
        have hha := c_mhas (La_ X) (wI_ u m 0 0) hm H0.2.2.2.2.1 H0.2.2.2.1 hvs hkp
        rw [ei] at hha
        have t48 : ∀ b : Int, (cntV vs.2.1 ((M vs.1).take k) : Int) + b = (cntV vs.2.1 ((M vs.1).take (k + 1)) : Nat) → Z X 48 [some (aR m), some (aI i), some (aI (cntV vs.2.1 ((M vs.1).take k) : Nat)), some (aI (k : Int))] [aI b, aI (cntV vs.2.1 ((M vs.1).take k) : Nat)] (wI_ u m 0 0) 0 0 := fun b hb => by
          refine z_iadd ho dX13_size_48 ?_
          refine z_istore_n ho dX13_size_49 (Nat.le_of_ble_eq_true rfl) rfl ?_
          refine z_iinc ho dX13_size_50 rfl rfl ?_
          refine z_goto (tgt := 19) ho dX13_size_53 (by decide) ?_
          rw [hb]
          exact nx
        refine z_iload_n ho dX13_size_19 rfl ?_
        refine z_aload_n ho dX13_size_20 rfl ?_
        refine gX13_13 ho dX13_size_21 hm.1 (mget hm.r3 ?_)
        refine z_aload_n ho dX13_size_24 rfl ?_
        refine z_iload_n ho dX13_size_25 rfl ?_
        refine kX13_114 ho hN (hmo) dX13_size_26 hm.1 (Nat.le_of_ble_eq_true rfl) (Nat.le_of_ble_eq_true rfl) (Nat.le_of_ble_eq_true rfl) (Nat.le_of_ble_eq_true rfl) (fun x26 u26 h26 => ?_)
        obtain ⟨rfl, rfl⟩ := h26
        refine z_iald ho dX13_size_29 hm.k2 (by omega) (hm.t2 (by omega)) ?_
        refine z_icmp_ge (tgt := 56) ho dX13_size_30 (by decide) (by unfold rng; omega) (by rw [g1]; unfold rng; omega) (fun c30 => ?_) (fun c30 => ?_)
        · omega
        · 
          refine z_iload_n ho dX13_size_33 rfl ?_
          refine z_aload_n ho dX13_size_34 rfl ?_
          refine z_iload_n ho dX13_size_35 rfl ?_
          refine z_iload_n ho dX13_size_36 rfl ?_
          refine kX13_143 ho hN (hha) dX13_size_37 hm.1 (Nat.le_of_ble_eq_true rfl) (Nat.le_of_ble_eq_true rfl) (Nat.le_of_ble_eq_true rfl) (Nat.le_of_ble_eq_true rfl) (fun x37 u37 h37 => ?_)
          obtain ⟨rfl, hh⟩ := h37
          refine z_if_eq (tgt := 47) ho dX13_size_40 (by decide) (by rcases hh with ⟨z, -⟩ | ⟨z, -⟩ <;> rw [z] <;> unfold rng <;> omega) (fun c40 => ?_) (fun c40 => ?_)
          · 
            refine z_iconst ho dX13_size_47 ?_
            exact t48 0 (by rw [n2 (hh.resolve_left (fun z => by omega)).2]; omega)
          · 
            refine z_iconst ho dX13_size_43 ?_
            refine z_goto (tgt := 48) ho dX13_size_44 (by decide) ?_
            exact t48 1 (by rw [n1 (hh.resolve_right (fun z => c40 z.1)).2]; omega)
    refine z_iconst ho dX13_size_15 ?_
    refine z_istore_n ho dX13_size_16 (Nat.le_of_ble_eq_true rfl) rfl ?_
    refine z_iconst ho dX13_size_17 ?_
    refine z_istore_n ho dX13_size_18 (Nat.le_of_ble_eq_true rfl) rfl ?_
    exact key (M vs.1).length 0 rfl
  · 
    refine z_iconst ho dX13_size_13 ?_
    refine r_I ho dX13_size_14 (Nat.le_of_ble_eq_true rfl) (Nat.le_of_ble_eq_true rfl) ?_
    exact ⟨rfl, HQ, Or.inl ⟨(hs.resolve_left (fun z => by omega)).2, rfl⟩⟩
theorem c_mfound (l : Launch) (u : Mem) {m N : Nat} {i : Int} {tp fd : List Int} {M : Nat → List KV} {ch : Nat → Int} {VL : List VS} {Ks : List (List Int)} {T : List Int} {Os : List (List Int)} (h : MS u m N tp fd M ch VL Ks T Os) (ri : rng i) : Mt_ l yX13_found cX13_found 2 (some .int) 0 0 0 [aR m, aI i] u (qI fun r v => qM m N u 0 tp fd M ch VL Ks T Os v ∧ r = if i = -1 then (fd.length : Int) else if 0 ≤ i ∧ i < fd.length then _root_.Jvm.Pilot.CKeyHallLaw_law_r3948_e91dda.ch fd i else -1) := by
  have HQ : qM m N u 0 tp fd M ch VL Ks T Os (wI_ u m 0 0) := qM_raise h
  have hm := h.1
  obtain ⟨f1, f2, f3⟩ := h.2.2.1
  have fl := f3.1
  have e20 : iv_ (wI_ u m 0 0) m 20 = (fd.length : Int) := by rw [iv_wI, if_neg (by omega)]; exact f1
  have ta : TA u (m + 17) 0 fd := ⟨hm.k17, by decide, by rw [hm.l17]; omega, f2, by omega, f3.2⟩
  refine Mt_of (by decide) (Nat.le_of_ble_eq_true rfl) (fun X ho hX hN hI => ?_)
  subst hX
  show Z X 0 [some (aR m), some (aI i)] [] u 0 0
  refine z_aload_n ho dX13_found_0 rfl ?_
  refine z_iconst ho dX13_found_1 ?_
  refine pX13_99 ho dX13_found_2 hm.1  ?_
  refine z_iload_n ho dX13_found_5 rfl ?_
  refine z_iconst ho dX13_found_6 ?_
  refine z_icmp_ne (tgt := 17) ho dX13_found_7 (by decide) ri (by unfold rng; omega) (fun c7 => ?_) (fun c7 => ?_)
  · have no : ¬ (0 ≤ i ∧ i < (fd.length : Int)) → Z X 29 [some (aR m), some (aI i)] [] (wI_ u m 0 0) 0 0 := fun hn => by
      refine z_iconst ho dX13_found_29 ?_
      refine z_goto (tgt := 39) ho dX13_found_30 (by decide) ?_
      refine r_I ho dX13_found_39 (Nat.le_of_ble_eq_true rfl) (Nat.le_of_ble_eq_true rfl) ?_
      exact ⟨HQ, by rw [if_neg c7, if_neg hn]⟩
    refine z_iload_n ho dX13_found_17 rfl ?_
    refine z_if_lt (tgt := 29) ho dX13_found_18 (by decide) ri (fun c18 => ?_) (fun c18 => ?_)
    · exact no (by omega)
    · 
      refine z_iload_n ho dX13_found_21 rfl ?_
      refine z_aload_n ho dX13_found_22 rfl ?_
      refine gX13_154 ho dX13_found_23 hm.1 ?_
      refine z_icmp_lt (tgt := 33) ho dX13_found_26 (by decide) ri (by rw [e20]; unfold rng; omega) (fun c26 => ?_) (fun c26 => ?_)
      · rw [e20] at c26
        refine z_aload_n ho dX13_found_33 rfl ?_
        refine gX13_63 ho dX13_found_34 hm.1 (mget hm.r19 ?_)
        refine z_iload_n ho dX13_found_37 rfl ?_
        refine z_iald ho dX13_found_38 hm.k17 (by omega) (hm.t17 (by omega)) ?_
        refine r_I ho dX13_found_39 (Nat.le_of_ble_eq_true rfl) (Nat.le_of_ble_eq_true rfl) ?_
        refine ⟨HQ, ?_⟩
        have e := (ta.at_ (j := i) (by omega) (by omega)).1
        rw [Int.zero_add] at e
        rw [if_neg c7, if_pos ⟨by omega, c26⟩, ← e, ivf (by omega)]
      · rw [e20] at c26
        exact no (by omega)
  · 
    refine z_aload_n ho dX13_found_10 rfl ?_
    refine gX13_154 ho dX13_found_11 hm.1 ?_
    refine z_goto (tgt := 39) ho dX13_found_14 (by decide) ?_
    refine r_I ho dX13_found_39 (Nat.le_of_ble_eq_true rfl) (Nat.le_of_ble_eq_true rfl) ?_
    exact ⟨HQ, by rw [if_pos c7]; exact e20⟩
/-- a view's iterator changes: its range is the same -/
theorem MVw.set {of so tl te : Int → Int} {VL : List VS} {i : Nat} {vs : VS} {b s c : Int} {o : Option (List Int)} (h : MVw of so tl te VL) (hv : VL[i]? = some vs) : MVw of so tl te (VL.set i (vs.1, vs.2.1, vs.2.2.1, b, s, o, c)) := by
  have hil := (List.getElem?_eq_some_iff.mp hv).1
  have key : ∀ (j : Nat) ws, (VL.set i (vs.1, vs.2.1, vs.2.2.1, b, s, o, c))[j]? = some ws → ∃ ws', VL[j]? = some ws' ∧ ws'.1 = ws.1 ∧ ws'.2.1 = ws.2.1 ∧ ws'.2.2.1 = ws.2.2.1 := fun j ws hj => by
    by_cases z : j = i
    · subst z
      rw [List.getElem?_set_self hil] at hj
      cases hj
      exact ⟨vs, hv, rfl, rfl, rfl⟩
    · rw [List.getElem?_set_ne (Ne.symm z)] at hj
      exact ⟨ws, hj, rfl, rfl, rfl⟩
  have inv : ∀ (j : Nat) ws', VL[j]? = some ws' → ∃ ws, (VL.set i (vs.1, vs.2.1, vs.2.2.1, b, s, o, c))[j]? = some ws ∧ ws'.1 = ws.1 ∧ ws'.2.1 = ws.2.1 ∧ ws'.2.2.1 = ws.2.2.1 := fun j ws' hj => by
    by_cases z : j = i
    · subst z
      rw [hv] at hj
      cases hj
      exact ⟨_, List.getElem?_set_self hil, rfl, rfl, rfl⟩
    · exact ⟨ws', by rw [List.getElem?_set_ne (Ne.symm z)]; exact hj, rfl, rfl, rfl⟩
  intro j ws hj
  obtain ⟨ws', h1, h2, h3, h4⟩ := key j ws hj
  obtain ⟨q1, q2, q3⟩ := h j ws' h1
  rw [← h2, ← h3, ← h4]
  refine ⟨q1, q2, ?_⟩
  rcases q3 with p | ⟨p1, b', vb', t', p2, p3, p4, p5, p6, p7, p8, p9, p10, p11⟩
  · exact Or.inl p
  · obtain ⟨vb, g1, g2, g3, g4⟩ := inv b' vb' p4
    exact Or.inr ⟨p1, b', vb, t', p2, p3, g1, p5, p6, p7, p8, by rw [← g2]; exact p9, by rw [← g3]; exact p10, by rw [← g4]; exact p11⟩
theorem MV.set {u : Mem} {m : Nat} {VL : List VS} {i : Nat} {vs : VS} {b s c : Int} {o : Option (List Int)} (h : MV u m VL) (hv : VL[i]? = some vs) : MV u m (VL.set i (vs.1, vs.2.1, vs.2.2.1, b, s, o, c)) := ⟨by rw [List.length_set]; exact h.1, by rw [List.length_set]; exact h.2.1, h.2.2.set hv⟩
theorem c_miterate (l : Launch) (u : Mem) {m N : Nat} {i : Int} {tp fd : List Int} {M : Nat → List KV} {ch : Nat → Int} {VL : List VS} {Ks : List (List Int)} {T : List Int} {Os : List (List Int)} (h : MS u m N tp fd M ch VL Ks T Os) (ri : rng i) : Mt_ l yX13_iterate cX13_iterate 2 (some .boolean) 2 0 0 [aR m, aI i] u (qI fun r v => (¬ (0 ≤ i ∧ i < VL.length) ∧ r = 0 ∧ qM m N u 0 tp fd M ch VL Ks T Os v) ∨ (∃ vs, 0 ≤ i ∧ VL[i.toNat]? = some vs ∧ r = 1 ∧ qM m N u 0 tp fd M ch (VL.set i.toNat (vs.1, vs.2.1, vs.2.2.1, 1, ch vs.1, none, 0)) Ks T Os v)) := by
  have H0 := h.cgc (v := wI_ u m 0 0) ((Cg.rf m u _ _).f 0 0 (by decide))
  have HQ : qM m N u 0 tp fd M ch VL Ks T Os (wI_ u m 0 0) := qM_raise h
  have hm := h.1
  refine Mt_of (by decide) (Nat.le_of_ble_eq_true rfl) (fun X ho hX hN hI => ?_)
  subst hX
  show Z X 0 [some (aR m), some (aI i)] [] u 0 0
  refine z_aload_n ho dX13_iterate_0 rfl ?_
  refine z_iconst ho dX13_iterate_1 ?_
  refine pX13_99 ho dX13_iterate_2 hm.1  ?_
  refine z_aload_n ho dX13_iterate_5 rfl ?_
  refine z_iload_n ho dX13_iterate_6 rfl ?_
  refine kX13_122 ho hN (c_isView _ _ hm H0.2.2.2.2.1.1 H0.2.2.2.2.1.2.1 ri) dX13_iterate_7 hm.1 (Nat.le_of_ble_eq_true rfl) (Nat.le_of_ble_eq_true rfl) (Nat.le_of_ble_eq_true rfl) (Nat.le_of_ble_eq_true rfl) (fun x7 u7 h7 => ?_)
  obtain ⟨rfl, hs⟩ := h7
  refine z_if_ne (tgt := 15) ho dX13_iterate_10 (by decide) (by rcases hs with ⟨z, -⟩ | ⟨z, -⟩ <;> rw [z] <;> unfold rng <;> omega) (fun c10 => ?_) (fun c10 => ?_)
  · have hin := (hs.resolve_right (fun z => c10 z.1)).2
    have h12 := h.2.2.2.2.1.2.1
    have hvs : VL[i.toNat]? = some VL[i.toNat] := List.getElem?_eq_getElem (by omega)
    generalize VL[i.toNat] = vs at hvs
    have ei : (i.toNat : Int) = i := Int.toNat_of_nonneg hin.1
    have v3 := (h.2.2.2.2.1.2.2 _ vs hvs).1
    have c2 : Cg m u (wI_ (wI_ (wI_ (wI_ u m 0 0) (m + 11) i 1) (m + 12) i 0) (m + 13) i 0) [0] [11, 12, 13, 14] := ((((Cg.rf m u _ _).f 0 0 (by decide)).a 11 _ _ (by decide) (by decide) (by decide)).a 12 _ _ (by decide) (by decide) (by decide)).a 13 _ _ (by decide) (by decide) (by decide)
    have hmo := c_mapOf (La_ X) (wI_ (wI_ (wI_ (wI_ u m 0 0) (m + 11) i 1) (m + 12) i 0) (m + 13) i 0) hm (h.2.2.2.2.1.cg c2 (by decide) (by decide)) hvs
    rw [ei] at hmo
    have e3 : iv_ (wI_ (wI_ (wI_ (wI_ u m 0 0) (m + 11) i 1) (m + 12) i 0) (m + 13) i 0) (m + 3) (vs.1 : Int) = ch vs.1 := by rw [ivf (by omega), ivf (by omega), ivf (by omega), ivf (by omega)]; exact (h.2.2.2.1 vs.1 v3).2.1
    refine z_aload_n ho dX13_iterate_15 rfl ?_
    refine gX13_44 ho dX13_iterate_16 hm.1 (mget hm.r13 ?_)
    refine z_iload_n ho dX13_iterate_19 rfl ?_
    refine z_iconst ho dX13_iterate_20 ?_
    refine z_zast ho dX13_iterate_21 hm.k11 (by omega) (hm.t11 (by omega)) (by omega) ?_
    refine z_aload_n ho dX13_iterate_22 rfl ?_
    refine gX13_48 ho dX13_iterate_23 hm.1 (mget hm.r14 ?_)
    refine z_iload_n ho dX13_iterate_26 rfl ?_
    refine z_iconst ho dX13_iterate_27 ?_
    refine z_zast ho dX13_iterate_28 hm.k12 (by omega) (hm.t12 (by omega)) (by omega) ?_
    refine z_aload_n ho dX13_iterate_29 rfl ?_
    refine gX13_51 ho dX13_iterate_30 hm.1 (mget hm.r15 ?_)
    refine z_iload_n ho dX13_iterate_33 rfl ?_
    refine z_iconst ho dX13_iterate_34 ?_
    refine z_zast ho dX13_iterate_35 hm.k13 (by omega) (hm.t13 (by omega)) (by omega) ?_
    refine z_aload_n ho dX13_iterate_36 rfl ?_
    refine gX13_54 ho dX13_iterate_37 hm.1 (mget hm.r16 ?_)
    refine z_iload_n ho dX13_iterate_40 rfl ?_
    refine z_aload_n ho dX13_iterate_41 rfl ?_
    refine gX13_16 ho dX13_iterate_42 hm.1 (mget hm.r4 ?_)
    refine z_aload_n ho dX13_iterate_45 rfl ?_
    refine z_iload_n ho dX13_iterate_46 rfl ?_
    refine kX13_114 ho hN (hmo) dX13_iterate_47 hm.1 (Nat.le_of_ble_eq_true rfl) (Nat.le_of_ble_eq_true rfl) (Nat.le_of_ble_eq_true rfl) (Nat.le_of_ble_eq_true rfl) (fun x47 u47 h47 => ?_)
    obtain ⟨rfl, rfl⟩ := h47
    refine z_iald ho dX13_iterate_50 hm.k3 (by omega) (hm.t3 (by omega)) ?_
    refine z_iast ho dX13_iterate_51 hm.k14 (by omega) (hm.t14 (by omega)) ?_
    refine z_iconst ho dX13_iterate_52 ?_
    refine r_Z ho dX13_iterate_53 (Nat.le_of_ble_eq_true rfl) (Nat.le_of_ble_eq_true rfl) ?_ ?_
    · exact Or.inr rfl
    · rw [e3]
      have c3 := c2.a 14 i (ch vs.1) (by decide) (by decide) (by decide)
      generalize hv : wI_ (wI_ (wI_ (wI_ (wI_ u m 0 0) (m + 11) i 1) (m + 12) i 0) (m + 13) i 0) (m + 14) i (ch vs.1) = v at *
      obtain ⟨b1, b2, b3, b4, b5, b6, b7, b8, b9⟩ := h
      have f11 : ∀ j : Int, iv_ v (m + 11) j = if j = i then 1 else iv_ u (m + 11) j := fun j => by
        rw [← hv, ivf (by omega), ivf (by omega), ivf (by omega), iv_wI, ivf (by omega)]
        by_cases z : j = i
        · rw [if_pos ⟨rfl, z⟩, if_pos z]
        · rw [if_neg (fun y => z y.2), if_neg z]
      have f12 : ∀ j : Int, iv_ v (m + 12) j = if j = i then 0 else iv_ u (m + 12) j := fun j => by
        rw [← hv, ivf (by omega), ivf (by omega), iv_wI, ivf (by omega), ivf (by omega)]
        by_cases z : j = i
        · rw [if_pos ⟨rfl, z⟩, if_pos z]
        · rw [if_neg (fun y => z y.2), if_neg z]
      have f13 : ∀ j : Int, iv_ v (m + 13) j = if j = i then 0 else iv_ u (m + 13) j := fun j => by
        rw [← hv, ivf (by omega), iv_wI, ivf (by omega), ivf (by omega), ivf (by omega)]
        by_cases z : j = i
        · rw [if_pos ⟨rfl, z⟩, if_pos z]
        · rw [if_neg (fun y => z y.2), if_neg z]
      have f14 : ∀ j : Int, iv_ v (m + 14) j = if j = i then ch vs.1 else iv_ u (m + 14) j := fun j => by
        rw [← hv, iv_wI, ivf (by omega), ivf (by omega), ivf (by omega), ivf (by omega)]
        by_cases z : j = i
        · rw [if_pos ⟨rfl, z⟩, if_pos z]
        · rw [if_neg (fun y => z y.2), if_neg z]
      have f15 : iv_ v (m + 15) = iv_ u (m + 15) := c3.2.2 15 (by decide) (by decide)
      have f16 : iv_ v (m + 16) = iv_ u (m + 16) := c3.2.2 16 (by decide) (by decide)
      have f0 : iv_ v m 0 = 0 := by rw [← hv, ivf (by omega), ivf (by omega), ivf (by omega), ivf (by omega), iv_wI, if_pos ⟨rfl, rfl⟩]
      have hMV := b5.cg c3 (by decide) (by decide)
      refine Or.inr ⟨vs, hin.1, hvs, rfl, c3.1, f0, b1.im c3.1, b2.cg c3 (by decide) (by decide), b3.cg c3 (by decide) (by decide), b4.cg c3 (by decide), hMV.set hvs, ⟨fun j ws hj => ?_, fun j j1 j2 => ?_⟩, b7.cg c3 (by decide) (by decide), b8.cg c3 (by decide) (by decide), b9⟩
      · by_cases z : j = i.toNat
        · subst z
          rw [List.getElem?_set_self (by omega)] at hj
          cases hj
          rw [f11, f12, f13, f14, ei, if_pos rfl, if_pos rfl, if_pos rfl, if_pos rfl]
          exact ⟨⟨rfl, Or.inr rfl⟩, ⟨rfl, b9 vs.1 v3⟩, Or.inl ⟨rfl, rfl⟩, rfl, Or.inl rfl⟩
        · rw [List.getElem?_set_ne (Ne.symm z)] at hj
          rw [f11, f12, f13, f14, f15, f16, if_neg (by omega), if_neg (by omega), if_neg (by omega), if_neg (by omega)]
          exact b6.1 j ws hj
      · rw [List.length_set] at j1
        rw [f11, f12, f13, f14, if_neg (by omega), if_neg (by omega), if_neg (by omega), if_neg (by omega)]
        exact b6.2 j j1 j2
  · 
    refine z_iconst ho dX13_iterate_13 ?_
    refine r_Z ho dX13_iterate_14 (Nat.le_of_ble_eq_true rfl) (Nat.le_of_ble_eq_true rfl) ?_ ?_
    · exact Or.inl rfl
    · exact Or.inl ⟨(hs.resolve_left (fun z => by omega)).2, rfl, HQ⟩
