set_option maxRecDepth 100000
/-! ===== KeyHallModel: next, drop, match ===== -/
theorem MIt.upd {u v : Mem} {m i : Nat} {VL : List VS} {vs : VS} {b s c : Int} {o : Option (List Int)} (h : MIt u m VL) (hv : VL[i]? = some vs) (e11 : ∀ j : Int, j ≠ i → iv_ v (m + 11) j = iv_ u (m + 11) j) (e12 : ∀ j : Int, j ≠ i → iv_ v (m + 12) j = iv_ u (m + 12) j) (e13 : ∀ j : Int, j ≠ i → iv_ v (m + 13) j = iv_ u (m + 13) j) (e14 : ∀ j : Int, j ≠ i → iv_ v (m + 14) j = iv_ u (m + 14) j) (e15 : ∀ j : Int, j ≠ i → iv_ v (m + 15) j = iv_ u (m + 15) j) (e16 : ∀ j : Int, ¬ (8 * (i : Int) ≤ j ∧ j < 8 * (i : Int) + 8) → iv_ v (m + 16) j = iv_ u (m + 16) j) (n1 : iv_ v (m + 11) (i : Int) = b ∧ (b = 0 ∨ b = 1)) (n2 : iv_ v (m + 14) (i : Int) = s ∧ rng s) (n3 : (iv_ v (m + 12) (i : Int) = 0 ∧ o = none) ∨ (iv_ v (m + 12) (i : Int) = 1 ∧ ∃ t, o = some t ∧ iv_ v (m + 15) (i : Int) = (t.length : Int) ∧ sub_ (iv_ v (m + 16)) (8 * (i : Int)) t.length = t ∧ Tx t)) (n4 : iv_ v (m + 13) (i : Int) = c ∧ (c = 0 ∨ c = 1)) : MIt v m (VL.set i (vs.1, vs.2.1, vs.2.2.1, b, s, o, c)) := by
  have hil := (List.getElem?_eq_some_iff.mp hv).1
  have hne : ∀ j : Nat, j ≠ i → (j : Int) ≠ (i : Int) := fun j hj => by clear n3; omega
  refine ⟨fun j ws hj => ?_, fun j j1 j2 => ?_⟩
  · by_cases z : j = i
    · subst z
      rw [List.getElem?_set_self hil] at hj
      cases hj
      exact ⟨n1, n2, n3, n4⟩
    · rw [List.getElem?_set_ne (Ne.symm z)] at hj
      obtain ⟨q1, q2, q3, q4⟩ := h.1 j ws hj
      refine ⟨by rw [e11 _ (hne j z)]; exact q1, by rw [e14 _ (hne j z)]; exact q2, ?_, by rw [e13 _ (hne j z)]; exact q4⟩
      rcases q3 with ⟨y1, y2⟩ | ⟨y1, t, y2, y3, y4, y5⟩
      · exact Or.inl ⟨by rw [e12 _ (hne j z)]; exact y1, y2⟩
      · refine Or.inr ⟨by rw [e12 _ (hne j z)]; exact y1, t, y2, by rw [e15 _ (hne j z)]; exact y3, ?_, y5⟩
        have := y5.1
        conv => rhs; rw [← y4]
        exact sub_ext (fun y y0 y1 => e16 _ (by clear n3; omega))
  · rw [List.length_set] at j1
    have z : (j : Int) ≠ (i : Int) := by clear n3; omega
    rw [e11 _ z, e12 _ z, e13 _ z, e14 _ z]
    exact h.2 j j1 j2
theorem c_mnext (l : Launch) (u : Mem) {m N : Nat} {i : Int} {tp fd : List Int} {M : Nat → List KV} {ch : Nat → Int} {VL : List VS} {Ks : List (List Int)} {T : List Int} {Os : List (List Int)} {Q0 : VS → Option KV} (h : MS u m N tp fd M ch VL Ks T Os) (ri : rng i) (hq : ∀ vs, 0 ≤ i → VL[i.toNat]? = some vs → Nr vs.2.2.1 vs.2.1 vs.2.2.2.2.2.1 (stO vs.2.2.2.2.2.1) (M vs.1) (Q0 vs)) :
    Mt_ l yX13_next cX13_next 5 (some .int) 5 0 0 [aR m, aI i] u (qI fun r v => (¬ (0 ≤ i ∧ i < VL.length) ∧ qM m N u 1 tp fd M ch VL Ks T Os v) ∨ (∃ vs, 0 ≤ i ∧ VL[i.toNat]? = some vs ∧ ((¬ Cur vs ch ∧ qM m N u 2 tp fd M ch VL Ks T Os v) ∨ (Cur vs ch ∧ Q0 vs = none ∧ qM m N u 3 tp fd M ch VL Ks T Os v) ∨ (Cur vs ch ∧ ∃ p, Q0 vs = some p ∧ r = p.2 ∧ qM m N u 0 tp p.1 M ch (VL.set i.toNat (vs.1, vs.2.1, vs.2.2.1, vs.2.2.2.1, vs.2.2.2.2.1, some p.1, 1)) Ks T Os v)))) := by
  have hm := h.1
  have h8 := h.2.2.2.2.1.1
  have h12 := h.2.2.2.2.1.2.1
  refine Mt_of (by decide) (Nat.le_of_ble_eq_true rfl) (fun X ho hX hN hI => ?_)
  subst hX
  show Z X 0 [some (aR m), some (aI i), none, none, none] [] u 0 0
  refine z_aload_n ho dX13_next_0 rfl ?_
  refine z_iload_n ho dX13_next_1 rfl ?_
  refine kX13_122 ho hN (c_isView _ _ hm h8 h12 ri) dX13_next_2 hm.1 (Nat.le_of_ble_eq_true rfl) (Nat.le_of_ble_eq_true rfl) (Nat.le_of_ble_eq_true rfl) (Nat.le_of_ble_eq_true rfl) (fun x2 u2 h2 => ?_)
  obtain ⟨rfl, hs⟩ := h2
  refine z_if_ne (tgt := 14) ho dX13_next_5 (by decide) (by rcases hs with ⟨z, -⟩ | ⟨z, -⟩ <;> rw [z] <;> unfold rng <;> omega) (fun c5 => ?_) (fun c5 => ?_)
  · have hin := (hs.resolve_right (fun z => c5 z.1)).2
    have hvs : VL[i.toNat]? = some VL[i.toNat] := List.getElem?_eq_getElem (by omega)
    generalize VL[i.toNat] = vs at hvs
    have ei : (i.toNat : Int) = i := Int.toNat_of_nonneg hin.1
    have v3 := (h.2.2.2.2.1.2.2 _ vs hvs).1
    have hf := hq vs hin.1 hvs
    obtain ⟨-, -, hto, -⟩ := h.2.2.2.2.2.1.1 _ vs hvs
    rw [ei] at hto
    have hst := c_stale (La_ X) u h hvs
    rw [ei] at hst
    refine z_aload_n ho dX13_next_14 rfl ?_
    refine z_iload_n ho dX13_next_15 rfl ?_
    refine kX13_171 ho hN (hst) dX13_next_16 hm.1 (Nat.le_of_ble_eq_true rfl) (Nat.le_of_ble_eq_true rfl) (Nat.le_of_ble_eq_true rfl) (Nat.le_of_ble_eq_true rfl) (fun x16 u16 h16 => ?_)
    obtain ⟨rfl, hb⟩ := h16
    refine z_if_eq (tgt := 28) ho dX13_next_19 (by decide) (by rcases hb with ⟨z, -⟩ | ⟨z, -⟩ <;> rw [z] <;> unfold rng <;> omega) (fun c19 => ?_) (fun c19 => ?_)
    · have hcu : Cur vs ch := Classical.byContradiction (hb.resolve_left (fun z => by omega)).2
      have fin : ∀ (e : Int), isK (M vs.1) (64 * (vs.1 : Int)) e (Q0 vs) → Z X 74 [some (aR m), some (aI i), none, none, none] [aI e] u 0 0 := fun e hk => by
        refine z_istore_n ho dX13_next_74 (Nat.le_of_ble_eq_true rfl) rfl ?_
        refine z_aload_n ho dX13_next_75 rfl ?_
        refine z_iload_n ho dX13_next_76 rfl ?_
        refine z_iconst ho dX13_next_77 ?_
        refine kX13_161 ho hN (c_mtell _ _ h v3 hk) dX13_next_78 hm.1 (Nat.le_of_ble_eq_true rfl) (Nat.le_of_ble_eq_true rfl) (Nat.le_of_ble_eq_true rfl) (Nat.le_of_ble_eq_true rfl) (fun x78 u78 h78 => ?_)
        rcases h78 with ⟨z1, z0, z2⟩ | ⟨p, z1, z0, z2, z3⟩
        · subst z0
          have hm := z2.2.2.1
          refine z_istore_n ho dX13_next_81 (Nat.le_of_ble_eq_true rfl) rfl ?_
          refine z_aload_n ho dX13_next_82 rfl ?_
          refine gX13_99 ho dX13_next_83 hm.1 ?_
          refine z_if_eq (tgt := 91) ho dX13_next_86 (by decide) (by rw [z2.2.1]; unfold rng; omega) (fun c86 => ?_) (fun c86 => ?_)
          · exact absurd (z2.2.1.symm.trans c86) (by decide)
          · 
            refine z_iconst ho dX13_next_89 ?_
            refine r_I ho dX13_next_90 (Nat.le_of_ble_eq_true rfl) (Nat.le_of_ble_eq_true rfl) ?_
            exact Or.inr ⟨vs, hin.1, hvs, Or.inr (Or.inl ⟨hcu, z1, z2⟩)⟩
        · obtain ⟨k', p', y1, y2, y3⟩ := hk.resolve_left (fun z => by rw [z1] at z; cases z.1)
          rw [z1] at y1
          cases y1
          subst y3
          have hm0 := z2.2.2.1
          obtain ⟨q1, q2, q3, q4, q5, q6⟩ := z2.2.2.2.2.2.1.key hm0 v3 y2
          have l8 := q4.1
          have f0 := z2.2.1
          obtain ⟨hI, -, HS⟩ := z2
          clear z3 h hst hb hf hto
          generalize hg : u78 = w0 at *
          have c1 : Cg m w0 (wI_ (wI_ (wI_ w0 (m + 12) i 1) (m + 13) i 1) (m + 15) i (p.1.length : Int)) [] [12, 13, 15, 16] := (((Cg.rf m w0 _ _).a 12 _ _ (by decide) (by decide) (by decide)).a 13 _ _ (by decide) (by decide) (by decide)).a 15 _ _ (by decide) (by decide) (by decide)
          have x5 : iv_ (wI_ (wI_ w0 (m + 12) i 1) (m + 13) i 1) (m + 5) = iv_ w0 (m + 5) := by rw [ivf (by omega), ivf (by omega)]
          refine z_istore_n ho dX13_next_81 (Nat.le_of_ble_eq_true rfl) rfl ?_
          refine z_aload_n ho dX13_next_82 rfl ?_
          refine gX13_99 ho dX13_next_83 hm0.1 ?_
          refine z_if_eq (tgt := 91) ho dX13_next_86 (by decide) (by rw [f0]; unfold rng; omega) (fun c86 => ?_) (fun c86 => ?_)
          · 
            refine z_aload_n ho dX13_next_91 rfl ?_
            refine gX13_48 ho dX13_next_92 hm0.1 (mget hm0.r14 ?_)
            refine z_iload_n ho dX13_next_95 rfl ?_
            refine z_iconst ho dX13_next_96 ?_
            refine z_zast ho dX13_next_97 hm0.k12 (by omega) (hm0.t12 (by omega)) (by omega) ?_
            refine z_aload_n ho dX13_next_98 rfl ?_
            refine gX13_51 ho dX13_next_99 hm0.1 (mget hm0.r15 ?_)
            refine z_iload_n ho dX13_next_102 rfl ?_
            refine z_iconst ho dX13_next_103 ?_
            refine z_zast ho dX13_next_104 hm0.k13 (by omega) (hm0.t13 (by omega)) (by omega) ?_
            refine z_aload_n ho dX13_next_105 rfl ?_
            refine gX13_57 ho dX13_next_106 hm0.1 (mget hm0.r17 ?_)
            refine z_iload_n ho dX13_next_109 rfl ?_
            refine z_aload_n ho dX13_next_110 rfl ?_
            refine gX13_22 ho dX13_next_111 hm0.1 (mget hm0.r6 ?_)
            refine z_iload_n ho dX13_next_114 rfl ?_
            refine z_iald ho dX13_next_115 hm0.k5 (by omega) (hm0.t5 (by omega)) ?_
            rw [x5, q1]
            refine z_iast ho dX13_next_116 hm0.k15 (by omega) (hm0.t15 (by omega)) ?_
            refine z_iconst ho dX13_next_117 ?_
            refine z_istore ho dX13_next_118 (Nat.le_of_ble_eq_true rfl) rfl ?_
            have x12 : ∀ j : Int, iv_ (wI_ (wI_ (wI_ w0 (m + 12) i 1) (m + 13) i 1) (m + 15) i (p.1.length : Int)) (m + 12) j = if j = i then 1 else iv_ w0 (m + 12) j := fun j => by
              rw [ivf (by omega), ivf (by omega), iv_wI]
              by_cases z : j = i
              · rw [if_pos ⟨rfl, z⟩, if_pos z]
              · rw [if_neg (fun y => z y.2), if_neg z]
            have x13 : ∀ j : Int, iv_ (wI_ (wI_ (wI_ w0 (m + 12) i 1) (m + 13) i 1) (m + 15) i (p.1.length : Int)) (m + 13) j = if j = i then 1 else iv_ w0 (m + 13) j := fun j => by
              rw [ivf (by omega), iv_wI, ivf (by omega)]
              by_cases z : j = i
              · rw [if_pos ⟨rfl, z⟩, if_pos z]
              · rw [if_neg (fun y => z y.2), if_neg z]
            have x15 : ∀ j : Int, iv_ (wI_ (wI_ (wI_ w0 (m + 12) i 1) (m + 13) i 1) (m + 15) i (p.1.length : Int)) (m + 15) j = if j = i then (p.1.length : Int) else iv_ w0 (m + 15) j := fun j => by
              rw [iv_wI, ivf (by omega), ivf (by omega)]
              by_cases z : j = i
              · rw [if_pos ⟨rfl, z⟩, if_pos z]
              · rw [if_neg (fun y => z y.2), if_neg z]
            have x16 : ∀ j : Int, iv_ (wI_ (wI_ (wI_ w0 (m + 12) i 1) (m + 13) i 1) (m + 15) i (p.1.length : Int)) (m + 16) j = iv_ w0 (m + 16) j := fun j => by rw [ivf (by omega), ivf (by omega), ivf (by omega)]
            generalize wI_ (wI_ (wI_ w0 (m + 12) i 1) (m + 13) i 1) (m + 15) i (p.1.length : Int) = w1 at *
            have hm1 := hm0.im c1.1
            have y4 : iv_ w1 (m + 4) = iv_ w0 (m + 4) := c1.2.2 4 (by decide) (by decide)
            have y5 : iv_ w1 (m + 5) = iv_ w0 (m + 5) := c1.2.2 5 (by decide) (by decide)
            have key : ∀ (d n : Nat), d + n = p.1.length → Z X 120 [some (aR m), some (aI i), some (aI (64 * (vs.1 : Int) + (k' : Int))), some (aI x78), some (aI (n : Int))] [] (cpA w1 (m + 16) (m + 4) (8 * i) (8 * (64 * (vs.1 : Int) + (k' : Int))) n) 0 0 := by
              intro d
              induction d with
              | zero =>
                intro n hn
                have hnl : n = p.1.length := by omega
                have c2 : Cg m w0 (cpA w1 (m + 16) (m + 4) (8 * i) (8 * (64 * (vs.1 : Int) + (k' : Int))) n) [] [12, 13, 15, 16] := cpA_cg c1 (by decide) (by decide) (by decide)
                have t4 := cpA_sub (u := w1) (a := m + 16) (b := m + 4) (d := 8 * i) (s := 8 * (64 * (vs.1 : Int) + (k' : Int))) (t := p.1) (by rw [y4]; exact q2.2.2.2.1)
                rw [← hnl] at t4
                have oth : ∀ c, c ≠ m + 16 → iv_ (cpA w1 (m + 16) (m + 4) (8 * i) (8 * (64 * (vs.1 : Int) + (k' : Int))) n) c = iv_ w1 c := fun c hc => cpA_o hc
                have o16 : ∀ j : Int, ¬ (8 * i ≤ j ∧ j < 8 * i + 8) → iv_ (cpA w1 (m + 16) (m + 4) (8 * i) (8 * (64 * (vs.1 : Int) + (k' : Int))) n) (m + 16) j = iv_ w0 (m + 16) j := fun j hj => by rw [cpA_iv, if_neg (by omega), x16]
                generalize cpA w1 (m + 16) (m + 4) (8 * i) (8 * (64 * (vs.1 : Int) + (k' : Int))) n = w2 at *
                have hm2 := hm0.im c2.1
                have z5 : iv_ w2 (m + 5) = iv_ w0 (m + 5) := c2.2.2 5 (by decide) (by decide)
                refine z_iload ho dX13_next_120 rfl ?_
                refine z_aload_n ho dX13_next_122 rfl ?_
                refine gX13_22 ho dX13_next_123 hm2.1 (mget hm2.r6 ?_)
                refine z_iload_n ho dX13_next_126 rfl ?_
                refine z_iald ho dX13_next_127 hm2.k5 (by omega) (hm2.t5 (by omega)) ?_
                refine z_icmp_ge (tgt := 161) ho dX13_next_128 (by decide) (by unfold rng; omega) (by rw [z5, q1]; unfold rng; omega) (fun c128 => ?_) (fun c128 => ?_)
                · 
                  refine z_iload_n ho dX13_next_161 rfl ?_
                  refine r_I ho dX13_next_162 (Nat.le_of_ble_eq_true rfl) (Nat.le_of_ble_eq_true rfl) ?_
                  obtain ⟨b1, b2, b3, b4, b5, b6, b7, b8, b9⟩ := HS
                  obtain ⟨d1, d2, d3, d4⟩ := b6.1 _ vs hvs
                  have hMI : MIt w2 m (VL.set i.toNat (vs.1, vs.2.1, vs.2.2.1, vs.2.2.2.1, vs.2.2.2.2.1, some p.1, 1)) := by
                    refine b6.upd hvs (fun j _ => by rw [c2.2.2 11 (by decide) (by decide)]) (fun j hj => by rw [oth _ (by omega), x12, if_neg (by omega)]) (fun j hj => by rw [oth _ (by omega), x13, if_neg (by omega)]) (fun j _ => by rw [c2.2.2 14 (by decide) (by decide)]) (fun j hj => by rw [oth _ (by omega), x15, if_neg (by omega)]) (fun j hj => o16 j (by omega)) ⟨by rw [c2.2.2 11 (by decide) (by decide)]; exact d1.1, d1.2⟩ ⟨by rw [c2.2.2 14 (by decide) (by decide)]; exact d2.1, d2.2⟩ (Or.inr ⟨by rw [oth _ (by omega), x12, ei, if_pos rfl], p.1, rfl, by rw [oth _ (by omega), x15, ei, if_pos rfl], by rw [ei, ← hnl]; exact t4, q4⟩) ⟨by rw [oth _ (by omega), x13, ei, if_pos rfl], Or.inr rfl⟩
                  refine Or.inr ⟨vs, hin.1, hvs, Or.inr (Or.inr ⟨hcu, p, z1, z0, hI.tr c2.1, by rw [c2.2.1 0 (by decide)]; exact f0, hm2, b2.cg c2 (by decide) (by decide), b3.cg c2 (by decide) (by decide), b4.cg c2 (by decide), (b5.cg c2 (by decide) (by decide)).set hvs, hMI, b7.cg c2 (by decide) (by decide), b8.cg c2 (by decide) (by decide), b9⟩)⟩
                · rw [z5, q1] at c128; omega
              | succ d ih =>
                intro n hn
                have nx := ih (n + 1) (by omega)
                obtain ⟨s1, s2⟩ := cpA_s (u := w1) (a := m + 16) (b := m + 4) (d := 8 * i) (s := 8 * (64 * (vs.1 : Int) + (k' : Int))) (by omega) n
                have hm2 : MF (cpA w1 (m + 16) (m + 4) (8 * i) (8 * (64 * (vs.1 : Int) + (k' : Int))) n) m := hm1
                have z5 : iv_ (cpA w1 (m + 16) (m + 4) (8 * i) (8 * (64 * (vs.1 : Int) + (k' : Int))) n) (m + 5) = iv_ w0 (m + 5) := by rw [cpA_o (by omega)]; exact y5
                refine z_iload ho dX13_next_120 rfl ?_
                refine z_aload_n ho dX13_next_122 rfl ?_
                refine gX13_22 ho dX13_next_123 hm2.1 (mget hm2.r6 ?_)
                refine z_iload_n ho dX13_next_126 rfl ?_
                refine z_iald ho dX13_next_127 hm2.k5 (by omega) (hm2.t5 (by omega)) ?_
                refine z_icmp_ge (tgt := 161) ho dX13_next_128 (by decide) (by unfold rng; omega) (by rw [z5, q1]; unfold rng; omega) (fun c128 => ?_) (fun c128 => ?_)
                · rw [z5, q1] at c128; omega
                · 
                  refine z_aload_n ho dX13_next_131 rfl ?_
                  refine gX13_60 ho dX13_next_132 hm2.1 (mget hm2.r18 ?_)
                  refine z_bipush ho dX13_next_135 rfl ?_
                  refine z_iload_n ho dX13_next_137 rfl ?_
                  refine z_imul ho dX13_next_138 ?_
                  refine z_iload ho dX13_next_139 rfl ?_
                  refine z_iadd ho dX13_next_141 ?_
                  refine z_aload_n ho dX13_next_142 rfl ?_
                  refine gX13_19 ho dX13_next_143 hm2.1 (mget hm2.r5 ?_)
                  refine z_bipush ho dX13_next_146 rfl ?_
                  refine z_iload_n ho dX13_next_148 rfl ?_
                  refine z_imul ho dX13_next_149 ?_
                  refine z_iload ho dX13_next_150 rfl ?_
                  refine z_iadd ho dX13_next_152 ?_
                  refine z_iald ho dX13_next_153 hm2.k4 (by omega) (hm2.t4 (by omega)) ?_
                  refine z_iast ho dX13_next_154 hm2.k16 (by omega) (hm2.t16 (by omega)) ?_
                  refine z_iinc ho dX13_next_155 rfl rfl ?_
                  refine z_goto (tgt := 120) ho dX13_next_158 (by decide) ?_
                  rw [s1, s2]
                  exact nx
            have k0 := key p.1.length 0 rfl
            rw [show ((0 : Nat) : Int) = 0 from rfl, cpA_0] at k0
            exact k0
          · exact absurd f0 c86
      have near : ∀ (sm at_ mm : Int) (b : Nat), (sm = 0 ∨ sm = 1) → TxO u b at_ mm vs.2.2.2.2.2.1 → stO vs.2.2.2.2.2.1 = 1 - sm → Mt_ (La_ X) yX13_nearest cX13_nearest 13 (some .int) 4 0 0 [aR m, aI i, aI 1, aI sm, aR b, aI at_, aI mm] u (qI fun r w => u = w ∧ isK (M vs.1) (64 * (vs.1 : Int)) r (Q0 vs)) := fun sm at_ mm b y1 y2 y3 => by
        have := c_mnear (La_ X) u hm h.2.2.2.2.1 h.2.2.2.1 hvs (bh := 1) (Or.inr rfl) y1 y2 (by rw [if_pos rfl, ← y3]; exact hf)
        rw [ei] at this
        exact this
      rcases hto with ⟨y1, y2⟩ | ⟨y1, t, y2, y3, y4, y5⟩
      · 
        refine z_aload_n ho dX13_next_28 rfl ?_
        refine gX13_48 ho dX13_next_29 hm.1 (mget hm.r14 ?_)
        refine z_iload_n ho dX13_next_32 rfl ?_
        refine z_zald ho dX13_next_33 hm.k12 (by omega) (hm.t12 (by omega)) ?_
        refine z_if_eq (tgt := 61) ho dX13_next_34 (by decide) (by rw [y1]; unfold rng; omega) (fun c34 => ?_) (fun c34 => ?_)
        · 
          refine z_aload_n ho dX13_next_61 rfl ?_
          refine z_iload_n ho dX13_next_62 rfl ?_
          refine z_iconst ho dX13_next_63 ?_
          refine z_iconst ho dX13_next_64 ?_
          refine z_aload_n ho dX13_next_65 rfl ?_
          refine gX13_7 ho dX13_next_66 hm.1 (mget hm.r1 ?_)
          refine z_iconst ho dX13_next_69 ?_
          refine z_iconst ho dX13_next_70 ?_
          refine kX13_157 ho hN (near 1 0 (-1) (m + 1) (Or.inr rfl) (Or.inl ⟨y2, rfl⟩) (by rw [y2]; rfl)) dX13_next_71 hm.1 (Nat.le_of_ble_eq_true rfl) (Nat.le_of_ble_eq_true rfl) (Nat.le_of_ble_eq_true rfl) (Nat.le_of_ble_eq_true rfl) (fun x71 u71 h71 => ?_)
          obtain ⟨rfl, hk⟩ := h71
          exact fin _ hk
        · exact absurd y1 c34
      · have l8 := y5.1
        refine z_aload_n ho dX13_next_28 rfl ?_
        refine gX13_48 ho dX13_next_29 hm.1 (mget hm.r14 ?_)
        refine z_iload_n ho dX13_next_32 rfl ?_
        refine z_zald ho dX13_next_33 hm.k12 (by omega) (hm.t12 (by omega)) ?_
        refine z_if_eq (tgt := 61) ho dX13_next_34 (by decide) (by rw [y1]; unfold rng; omega) (fun c34 => ?_) (fun c34 => ?_)
        · rw [y1] at c34; omega
        · 
          refine z_aload_n ho dX13_next_37 rfl ?_
          refine z_iload_n ho dX13_next_38 rfl ?_
          refine z_iconst ho dX13_next_39 ?_
          refine z_iconst ho dX13_next_40 ?_
          refine z_aload_n ho dX13_next_41 rfl ?_
          refine gX13_60 ho dX13_next_42 hm.1 (mget hm.r18 ?_)
          refine z_bipush ho dX13_next_45 rfl ?_
          refine z_iload_n ho dX13_next_47 rfl ?_
          refine z_imul ho dX13_next_48 ?_
          refine z_aload_n ho dX13_next_49 rfl ?_
          refine gX13_57 ho dX13_next_50 hm.1 (mget hm.r17 ?_)
          refine z_iload_n ho dX13_next_53 rfl ?_
          refine z_iald ho dX13_next_54 hm.k15 (by omega) (hm.t15 (by omega)) ?_
          rw [y3]
          refine kX13_157 ho hN (near 0 (8 * i) (t.length : Int) (m + 16) (Or.inl rfl) (Or.inr ⟨t, y2, ⟨hm.k16, by omega, by rw [hm.l16]; omega, y4, by omega, y5.2⟩, rfl⟩) (by rw [y2]; rfl)) dX13_next_55 hm.1 (Nat.le_of_ble_eq_true rfl) (Nat.le_of_ble_eq_true rfl) (Nat.le_of_ble_eq_true rfl) (Nat.le_of_ble_eq_true rfl) (fun x55 u55 h55 => ?_)
          obtain ⟨rfl, hk⟩ := h55
          refine z_goto (tgt := 74) ho dX13_next_58 (by decide) ?_
          exact fin _ hk
    · 
      refine z_aload_n ho dX13_next_22 rfl ?_
      refine z_iconst ho dX13_next_23 ?_
      refine kX13_126 ho hN (c_raise _ _ hm) dX13_next_24 hm.1 (Nat.le_of_ble_eq_true rfl) (Nat.le_of_ble_eq_true rfl) (Nat.le_of_ble_eq_true rfl) (Nat.le_of_ble_eq_true rfl) (fun x24 u24 h24 => ?_)
      obtain ⟨rfl, rfl⟩ := h24
      refine r_I ho dX13_next_27 (Nat.le_of_ble_eq_true rfl) (Nat.le_of_ble_eq_true rfl) ?_
      exact Or.inr ⟨vs, hin.1, hvs, Or.inl ⟨(hb.resolve_right (fun z => c19 z.1)).2, qM_raise h⟩⟩
  · 
    refine z_aload_n ho dX13_next_8 rfl ?_
    refine z_iconst ho dX13_next_9 ?_
    refine kX13_126 ho hN (c_raise _ _ hm) dX13_next_10 hm.1 (Nat.le_of_ble_eq_true rfl) (Nat.le_of_ble_eq_true rfl) (Nat.le_of_ble_eq_true rfl) (Nat.le_of_ble_eq_true rfl) (fun x10 u10 h10 => ?_)
    obtain ⟨rfl, rfl⟩ := h10
    refine r_I ho dX13_next_13 (Nat.le_of_ble_eq_true rfl) (Nat.le_of_ble_eq_true rfl) ?_
    exact Or.inl ⟨(hs.resolve_left (fun z => by omega)).2, qM_raise h⟩
theorem c_mdrop (l : Launch) (u : Mem) {m N : Nat} {i : Int} {tp fd : List Int} {M : Nat → List KV} {ch : Nat → Int} {VL : List VS} {Ks : List (List Int)} {T : List Int} {Os : List (List Int)} (h : MS u m N tp fd M ch VL Ks T Os) (ri : rng i) (hc : ∀ k, k < 3 → ch k < 1000000) (hd : ∀ vs, 0 ≤ i → VL[i.toNat]? = some vs → Cur vs ch → vs.2.2.2.2.2.2 = 1 → ∃ t p, vs.2.2.2.2.2.1 = some t ∧ p ∈ M vs.1 ∧ p.1 = t) :
    Mt_ l yX13_drop cX13_drop 5 (some .int) 5 0 0 [aR m, aI i] u (qI fun r v => (¬ (0 ≤ i ∧ i < VL.length) ∧ qM m N u 1 tp fd M ch VL Ks T Os v) ∨ (∃ vs, 0 ≤ i ∧ VL[i.toNat]? = some vs ∧ ((¬ (Cur vs ch ∧ vs.2.2.2.2.2.2 = 1) ∧ qM m N u 2 tp fd M ch VL Ks T Os v) ∨ (Cur vs ch ∧ vs.2.2.2.2.2.2 = 1 ∧ ∃ A B t, vs.2.2.2.2.2.1 = some t ∧ M vs.1 = A ++ (t, r) :: B ∧ qM m N u 0 tp fd (fun k => if k = vs.1 then swp A B else M k) (fun k => if k = vs.1 then ch vs.1 + 1 else ch k) (VL.set i.toNat (vs.1, vs.2.1, vs.2.2.1, vs.2.2.2.1, ch vs.1 + 1, vs.2.2.2.2.2.1, 0)) Ks T Os v)))) := by
  have hm := h.1
  have h8 := h.2.2.2.2.1.1
  have h12 := h.2.2.2.2.1.2.1
  refine Mt_of (by decide) (Nat.le_of_ble_eq_true rfl) (fun X ho hX hN hI => ?_)
  subst hX
  show Z X 0 [some (aR m), some (aI i), none, none, none] [] u 0 0
  refine z_aload_n ho dX13_drop_0 rfl ?_
  refine z_iload_n ho dX13_drop_1 rfl ?_
  refine kX13_122 ho hN (c_isView _ _ hm h8 h12 ri) dX13_drop_2 hm.1 (Nat.le_of_ble_eq_true rfl) (Nat.le_of_ble_eq_true rfl) (Nat.le_of_ble_eq_true rfl) (Nat.le_of_ble_eq_true rfl) (fun x2 u2 h2 => ?_)
  obtain ⟨rfl, hs⟩ := h2
  refine z_if_ne (tgt := 14) ho dX13_drop_5 (by decide) (by rcases hs with ⟨z, -⟩ | ⟨z, -⟩ <;> rw [z] <;> unfold rng <;> omega) (fun c5 => ?_) (fun c5 => ?_)
  · have hin := (hs.resolve_right (fun z => c5 z.1)).2
    have hvs : VL[i.toNat]? = some VL[i.toNat] := List.getElem?_eq_getElem (by omega)
    generalize VL[i.toNat] = vs at hvs
    have ei : (i.toNat : Int) = i := Int.toNat_of_nonneg hin.1
    have v3 := (h.2.2.2.2.1.2.2 _ vs hvs).1
    obtain ⟨ib, isn, hto, hdr⟩ := h.2.2.2.2.2.1.1 _ vs hvs
    rw [ei] at hto hdr ib isn
    have hst := c_stale (La_ X) u h hvs
    rw [ei] at hst
    have bad : ¬ (Cur vs ch ∧ vs.2.2.2.2.2.2 = 1) → Z X 31 [some (aR m), some (aI i), none, none, none] [] u 0 0 := fun hn => by
      refine z_aload_n ho dX13_drop_31 rfl ?_
      refine z_iconst ho dX13_drop_32 ?_
      refine kX13_126 ho hN (c_raise _ _ hm) dX13_drop_33 hm.1 (Nat.le_of_ble_eq_true rfl) (Nat.le_of_ble_eq_true rfl) (Nat.le_of_ble_eq_true rfl) (Nat.le_of_ble_eq_true rfl) (fun x33 u33 h33 => ?_)
      obtain ⟨rfl, rfl⟩ := h33
      refine r_I ho dX13_drop_36 (Nat.le_of_ble_eq_true rfl) (Nat.le_of_ble_eq_true rfl) ?_
      exact Or.inr ⟨vs, hin.1, hvs, Or.inl ⟨hn, qM_raise h⟩⟩
    refine z_aload_n ho dX13_drop_14 rfl ?_
    refine z_iload_n ho dX13_drop_15 rfl ?_
    refine kX13_171 ho hN (hst) dX13_drop_16 hm.1 (Nat.le_of_ble_eq_true rfl) (Nat.le_of_ble_eq_true rfl) (Nat.le_of_ble_eq_true rfl) (Nat.le_of_ble_eq_true rfl) (fun x16 u16 h16 => ?_)
    obtain ⟨rfl, hb⟩ := h16
    refine z_if_ne (tgt := 31) ho dX13_drop_19 (by decide) (by rcases hb with ⟨z, -⟩ | ⟨z, -⟩ <;> rw [z] <;> unfold rng <;> omega) (fun c19 => ?_) (fun c19 => ?_)
    · exact bad (fun z => (hb.resolve_right (fun z => c19 z.1)).2 z.1)
    · have hcu : Cur vs ch := Classical.byContradiction (hb.resolve_left (fun z => by omega)).2
      refine z_aload_n ho dX13_drop_22 rfl ?_
      refine gX13_51 ho dX13_drop_23 hm.1 (mget hm.r15 ?_)
      refine z_iload_n ho dX13_drop_26 rfl ?_
      refine z_zald ho dX13_drop_27 hm.k13 (by omega) (hm.t13 (by omega)) ?_
      refine z_if_ne (tgt := 37) ho dX13_drop_28 (by decide) (by rw [hdr.1]; unfold rng; omega) (fun c28 => ?_) (fun c28 => ?_)
      · rw [hdr.1] at c28
        have hd1 : vs.2.2.2.2.2.2 = 1 := by omega
        obtain ⟨t, p, t1, t2, t3⟩ := hd vs hin.1 hvs hcu hd1
        obtain ⟨y1, t', y2, y3, y4, y5⟩ := hto.resolve_left (fun z => by rw [t1] at z; cases z.2)
        rw [t1] at y2
        cases y2
        have l8 := y5.1
        have c1 : Cg m u (wI_ u m 0 0) [0] [2, 3, 4, 5, 6, 13, 14] := (Cg.rf m u _ _).f 0 0 (by decide)
        have H0 := h.cgc (v := wI_ u m 0 0) ((Cg.rf m u _ _).f 0 0 (by decide))
        have f0 : iv_ (wI_ u m 0 0) m 0 = 0 := by rw [iv_wI, if_pos ⟨rfl, rfl⟩]
        have hta : TA (wI_ u m 0 0) (m + 16) (8 * i) t := ⟨hm.k16, by omega, by show 8 * i + (t.length : Int) ≤ ln_ u (m + 16); rw [hm.l16]; omega, by rw [ivf (by omega)]; exact y4, by omega, y5.2⟩
        have e15 : iv_ (wI_ u m 0 0) (m + 15) i = (t.length : Int) := by rw [ivf (by omega)]; exact y3
        have hmo := c_mapOf (La_ X) (wI_ u m 0 0) hm H0.2.2.2.2.1 hvs
        rw [ei] at hmo
        refine z_aload_n ho dX13_drop_37 rfl ?_
        refine z_iconst ho dX13_drop_38 ?_
        refine pX13_99 ho dX13_drop_39 hm.1  ?_
        refine z_aload_n ho dX13_drop_42 rfl ?_
        refine z_iload_n ho dX13_drop_43 rfl ?_
        refine kX13_114 ho hN (hmo) dX13_drop_44 hm.1 (Nat.le_of_ble_eq_true rfl) (Nat.le_of_ble_eq_true rfl) (Nat.le_of_ble_eq_true rfl) (Nat.le_of_ble_eq_true rfl) (fun x44 u44 h44 => ?_)
        obtain ⟨rfl, rfl⟩ := h44
        refine z_istore_n ho dX13_drop_47 (Nat.le_of_ble_eq_true rfl) rfl ?_
        refine z_aload_n ho dX13_drop_48 rfl ?_
        refine z_iload_n ho dX13_drop_49 rfl ?_
        refine z_aload_n ho dX13_drop_50 rfl ?_
        refine gX13_60 ho dX13_drop_51 hm.1 (mget hm.r18 ?_)
        refine z_bipush ho dX13_drop_54 rfl ?_
        refine z_iload_n ho dX13_drop_56 rfl ?_
        refine z_imul ho dX13_drop_57 ?_
        refine z_aload_n ho dX13_drop_58 rfl ?_
        refine gX13_57 ho dX13_drop_59 hm.1 (mget hm.r17 ?_)
        refine z_iload_n ho dX13_drop_62 rfl ?_
        refine z_iald ho dX13_drop_63 hm.k15 (by omega) (hm.t15 (by omega)) ?_
        rw [e15]
        refine kX13_133 ho hN (c_keyOf _ _ hm H0.2.2.2.1 v3 hta) dX13_drop_64 hm.1 (Nat.le_of_ble_eq_true rfl) (Nat.le_of_ble_eq_true rfl) (Nat.le_of_ble_eq_true rfl) (Nat.le_of_ble_eq_true rfl) (fun x64 u64 h64 => ?_)
        obtain ⟨rfl, hk⟩ := h64
        obtain ⟨k', p', z1, z2, z3⟩ := hk.resolve_left (fun z => z.2 p t2 t3)
        subst z3
        obtain ⟨q1, q2, q3, q4, q5, q6⟩ := H0.2.2.2.1.key hm v3 z1
        have hkl := (List.getElem?_eq_some_iff.mp z1).1
        refine z_istore_n ho dX13_drop_67 (Nat.le_of_ble_eq_true rfl) rfl ?_
        refine z_aload_n ho dX13_drop_68 rfl ?_
        refine gX13_25 ho dX13_drop_69 hm.1 (mget hm.r7 ?_)
        refine z_iload_n ho dX13_drop_72 rfl ?_
        refine z_iald ho dX13_drop_73 hm.k6 (by omega) (hm.t6 (by omega)) ?_
        refine z_istore ho dX13_drop_74 (Nat.le_of_ble_eq_true rfl) rfl ?_
        refine z_aload_n ho dX13_drop_76 rfl ?_
        refine z_iload_n ho dX13_drop_77 rfl ?_
        refine z_iload_n ho dX13_drop_78 rfl ?_
        refine kX13_139 ho hN (c_clear _ _ H0 v3 hkl) dX13_drop_79 hm.1 (Nat.le_of_ble_eq_true rfl) (Nat.le_of_ble_eq_true rfl) (Nat.le_of_ble_eq_true rfl) (Nat.le_of_ble_eq_true rfl) (fun u79 h79 => ?_)
        obtain ⟨g1, g2⟩ := h79
        rw [q3]
        have hm2 := hm.im (((Im.rf m u).w0 0 0).tr g1.1)
        have e3 : iv_ (wI_ u79 (m + 13) i 0) (m + 3) (vs.1 : Int) = ch vs.1 + 1 := by
          rw [ivf (by omega)]
          exact (g2 vs.1 v3).2.1.trans (if_pos rfl)
        refine z_aload_n ho dX13_drop_82 rfl ?_
        refine gX13_51 ho dX13_drop_83 hm2.1 (mget hm2.r15 ?_)
        refine z_iload_n ho dX13_drop_86 rfl ?_
        refine z_iconst ho dX13_drop_87 ?_
        refine z_zast ho dX13_drop_88 hm2.k13 (by omega) (hm2.t13 (by omega)) (by omega) ?_
        refine z_aload_n ho dX13_drop_89 rfl ?_
        refine gX13_54 ho dX13_drop_90 hm2.1 (mget hm2.r16 ?_)
        refine z_iload_n ho dX13_drop_93 rfl ?_
        refine z_aload_n ho dX13_drop_94 rfl ?_
        refine gX13_16 ho dX13_drop_95 hm2.1 (mget hm2.r4 ?_)
        refine z_iload_n ho dX13_drop_98 rfl ?_
        refine z_iald ho dX13_drop_99 hm2.k3 (by omega) (hm2.t3 (by omega)) ?_
        refine z_iast ho dX13_drop_100 hm2.k14 (by omega) (hm2.t14 (by omega)) ?_
        refine z_iload ho dX13_drop_101 rfl ?_
        refine r_I ho dX13_drop_103 (Nat.le_of_ble_eq_true rfl) (Nat.le_of_ble_eq_true rfl) ?_
        rw [e3]
        have c2 : Cg m u (wI_ (wI_ u79 (m + 13) i 0) (m + 14) i (ch vs.1 + 1)) [0] [2, 3, 4, 5, 6, 13, 14] := ((c1.tr (g1.mono (by decide) (by decide))).a 13 _ _ (by decide) (by decide) (by decide)).a 14 _ _ (by decide) (by decide) (by decide)
        have hMM := g2.cg (fs := []) (as := [13, 14]) (((Cg.rf m u79 _ _).a 13 i 0 (by decide) (by decide) (by decide)).a 14 i (ch vs.1 + 1) (by decide) (by decide) (by decide)) (by decide)
        have f0' : iv_ (wI_ (wI_ u79 (m + 13) i 0) (m + 14) i (ch vs.1 + 1)) m 0 = 0 := by rw [ivf (by omega), ivf (by omega), g1.2.1 0 (by decide)]; exact f0
        have x13 : ∀ j : Int, iv_ (wI_ (wI_ u79 (m + 13) i 0) (m + 14) i (ch vs.1 + 1)) (m + 13) j = if j = i then 0 else iv_ u (m + 13) j := fun j => by
          rw [ivf (by omega), iv_wI, g1.2.2 13 (by decide) (by decide), ivf (by omega)]
          by_cases z : j = i
          · rw [if_pos ⟨rfl, z⟩, if_pos z]
          · rw [if_neg (fun y => z y.2), if_neg z]
        have x14 : ∀ j : Int, iv_ (wI_ (wI_ u79 (m + 13) i 0) (m + 14) i (ch vs.1 + 1)) (m + 14) j = if j = i then ch vs.1 + 1 else iv_ u (m + 14) j := fun j => by
          rw [iv_wI, ivf (by omega), g1.2.2 14 (by decide) (by decide), ivf (by omega)]
          by_cases z : j = i
          · rw [if_pos ⟨rfl, z⟩, if_pos z]
          · rw [if_neg (fun y => z y.2), if_neg z]
        generalize wI_ (wI_ u79 (m + 13) i 0) (m + 14) i (ch vs.1 + 1) = w2 at *
        obtain ⟨b1, b2, b3, b4, b5, b6, b7, b8, b9⟩ := h
        have rr := rg_upd b9 (hc vs.1 v3) v3
        have rr1 := rr vs.1 v3
        simp only [if_pos] at rr1
        have hMI : MIt w2 m (VL.set i.toNat (vs.1, vs.2.1, vs.2.2.1, vs.2.2.2.1, ch vs.1 + 1, vs.2.2.2.2.2.1, 0)) := by
          refine b6.upd hvs (fun j _ => by rw [c2.2.2 11 (by decide) (by decide)]) (fun j _ => by rw [c2.2.2 12 (by decide) (by decide)]) (fun j hj => by rw [x13, if_neg (by omega)]) (fun j hj => by rw [x14, if_neg (by omega)]) (fun j _ => by rw [c2.2.2 15 (by decide) (by decide)]) (fun j _ => by rw [c2.2.2 16 (by decide) (by decide)]) ⟨by rw [c2.2.2 11 (by decide) (by decide), ei]; exact ib.1, ib.2⟩ ⟨by rw [x14, ei, if_pos rfl], rr1⟩ (Or.inr ⟨by rw [c2.2.2 12 (by decide) (by decide), ei]; exact y1, t, t1, by rw [c2.2.2 15 (by decide) (by decide), ei]; exact y3, by rw [c2.2.2 16 (by decide) (by decide), ei]; exact y4, y5⟩) ⟨by rw [x13, ei, if_pos rfl], Or.inl rfl⟩
        refine Or.inr ⟨vs, hin.1, hvs, Or.inr ⟨hcu, hd1, _, _, t, t1, ?_, c2.1, f0', b1.im c2.1, b2.cg c2 (by decide) (by decide), b3.cg c2 (by decide) (by decide), hMM, (b5.cg c2 (by decide) (by decide)).set hvs, hMI, b7.cg c2 (by decide) (by decide), b8.cg c2 (by decide) (by decide), rr⟩⟩
        have := take_drop_cons z1
        rw [show p' = (t, p'.2) by rw [← z2]] at this
        exact this
      · rw [hdr.1] at c28
        exact bad (fun z => by have := z.2; omega)
  · 
    refine z_aload_n ho dX13_drop_8 rfl ?_
    refine z_iconst ho dX13_drop_9 ?_
    refine kX13_126 ho hN (c_raise _ _ hm) dX13_drop_10 hm.1 (Nat.le_of_ble_eq_true rfl) (Nat.le_of_ble_eq_true rfl) (Nat.le_of_ble_eq_true rfl) (Nat.le_of_ble_eq_true rfl) (fun x10 u10 h10 => ?_)
    obtain ⟨rfl, rfl⟩ := h10
    refine r_I ho dX13_drop_13 (Nat.le_of_ble_eq_true rfl) (Nat.le_of_ble_eq_true rfl) ?_
    exact Or.inl ⟨(hs.resolve_left (fun z => by omega)).2, qM_raise h⟩
