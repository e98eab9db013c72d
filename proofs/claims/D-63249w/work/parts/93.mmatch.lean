set_option maxRecDepth 100000
/-! ===== KeyHallModel: match, letter, keep, insert, delete, undo ===== -/
theorem c_mmatch (l : Launch) (u : Mem) {m N : Nat} {i d : Int} {tp fd : List Int} {M : Nat → List KV} {ch : Nat → Int} {VL : List VS} {Ks : List (List Int)} {T : List Int} {Os : List (List Int)} (h : MS u m N tp fd M ch VL Ks T Os) (ri : rng i) (rd : rng d) :
    Mt_ l yX13_match cX13_match 9 (some .int) 4 0 0 [aR m, aI i, aI d] u (qI fun r v => (¬ (0 ≤ i ∧ i < VL.length) ∧ qM m N u 1 tp fd M ch VL Ks T Os v) ∨ (∃ vs, 0 ≤ i ∧ VL[i.toNat]? = some vs ∧ ((d < 0 ∧ qM m N u 2 [] fd M ch VL Ks T Os v) ∨ (0 ≤ d ∧ qM m N u 0 [] fd M ch VL Ks T Os v ∧ r = (cntV (fun s => vs.2.1 s ∧ mtc tp d s) (M vs.1) : Nat))))) := by
  have hm := h.1
  have h8 := h.2.2.2.2.1.1
  have h12 := h.2.2.2.2.1.2.1
  refine Mt_of (by decide) (Nat.le_of_ble_eq_true rfl) (fun X ho hX hN hI => ?_)
  subst hX
  show Z X 0 [some (aR m), some (aI i), some (aI d), none, none, none, none, none, none] [] u 0 0
  refine z_aload_n ho dX13_match_0 rfl ?_
  refine z_iload_n ho dX13_match_1 rfl ?_
  refine kX13_122 ho hN (c_isView _ _ hm h8 h12 ri) dX13_match_2 hm.1 (Nat.le_of_ble_eq_true rfl) (Nat.le_of_ble_eq_true rfl) (Nat.le_of_ble_eq_true rfl) (Nat.le_of_ble_eq_true rfl) (fun x2 u2 h2 => ?_)
  obtain ⟨rfl, hs⟩ := h2
  refine z_if_ne (tgt := 14) ho dX13_match_5 (by decide) (by rcases hs with ⟨z, -⟩ | ⟨z, -⟩ <;> rw [z] <;> unfold rng <;> omega) (fun c5 => ?_) (fun c5 => ?_)
  · have hin := (hs.resolve_right (fun z => c5 z.1)).2
    have hvs : VL[i.toNat]? = some VL[i.toNat] := List.getElem?_eq_getElem (by omega)
    generalize VL[i.toNat] = vs at hvs
    have ei : (i.toNat : Int) = i := Int.toNat_of_nonneg hin.1
    have v3 := (h.2.2.2.2.1.2.2 _ vs hvs).1
    have h2 := h.2.1.1
    refine z_aload_n ho dX13_match_14 rfl ?_
    refine gX13_102 ho dX13_match_15 hm.1 ?_
    refine z_istore_n ho dX13_match_18 (Nat.le_of_ble_eq_true rfl) rfl ?_
    rw [h2]
    refine z_aload_n ho dX13_match_19 rfl ?_
    refine z_iconst ho dX13_match_20 ?_
    refine pX13_102 ho dX13_match_21 hm.1  ?_
    refine z_iload_n ho dX13_match_24 rfl ?_
    refine z_if_ge (tgt := 34) ho dX13_match_25 (by decide) rd (fun c25 => ?_) (fun c25 => ?_)
    · have HQ : qM m N u 0 [] fd M ch VL Ks T Os (wI_ (wI_ u m 2 0) m 0 0) := qM_raise2 h
      have ta : TA (wI_ (wI_ u m 2 0) m 0 0) (m + 1) 0 tp := by
        obtain ⟨q1, q2, q3, q4, q5, q6⟩ := h.2.1.ta hm
        exact ⟨q1, q2, q3, by rw [ivf (by omega), ivf (by omega)]; exact q4, q5, q6⟩
      have tl := h.2.1.2.2.1
      refine z_aload_n ho dX13_match_34 rfl ?_
      refine z_iconst ho dX13_match_35 ?_
      refine pX13_99 ho dX13_match_36 hm.1  ?_
      generalize wI_ (wI_ u m 2 0) m 0 0 = w at *
      have hm := HQ.2.2.1
      have hV := HQ.2.2.2.2.2.2.1
      have hK := HQ.2.2.2.2.2.1
      obtain ⟨g1, g2, g3, -⟩ := hK vs.1 v3
      have hmo := c_mapOf (La_ X) w hm hV hvs
      rw [ei] at hmo
      have key : ∀ (e k : Nat), e + k = (M vs.1).length → Z X 45 [some (aR m), some (aI i), some (aI d), some (aI tp.length), some (aI (cntV (fun s => vs.2.1 s ∧ mtc tp d s) ((M vs.1).take k) : Nat)), some (aI (k : Int)), none, none, none] [] w 0 0 := by
        intro e
        induction e with
        | zero =>
          intro k hk
          refine z_iload ho dX13_match_45 rfl ?_
          refine z_aload_n ho dX13_match_47 rfl ?_
          refine gX13_13 ho dX13_match_48 hm.1 (mget hm.r3 ?_)
          refine z_aload_n ho dX13_match_51 rfl ?_
          refine z_iload_n ho dX13_match_52 rfl ?_
          refine kX13_114 ho hN (hmo) dX13_match_53 hm.1 (Nat.le_of_ble_eq_true rfl) (Nat.le_of_ble_eq_true rfl) (Nat.le_of_ble_eq_true rfl) (Nat.le_of_ble_eq_true rfl) (fun x53 u53 h53 => ?_)
          obtain ⟨rfl, rfl⟩ := h53
          refine z_iald ho dX13_match_56 hm.k2 (by omega) (hm.t2 (by omega)) ?_
          refine z_icmp_ge (tgt := 182) ho dX13_match_57 (by decide) (by unfold rng; omega) (by rw [g1]; unfold rng; omega) (fun c57 => ?_) (fun c57 => ?_)
          · 
            refine z_iload ho dX13_match_182 rfl ?_
            refine r_I ho dX13_match_184 (Nat.le_of_ble_eq_true rfl) (Nat.le_of_ble_eq_true rfl) ?_
            refine Or.inr ⟨vs, hin.1, hvs, Or.inr ⟨c25, HQ, ?_⟩⟩
            rw [List.take_of_length_le (by omega)]
          · omega
        | succ e ih =>
          intro k hk
          have hkp : (M vs.1)[k]? = some (M vs.1)[k] := List.getElem?_eq_getElem (by omega)
          generalize (M vs.1)[k] = p at hkp
          obtain ⟨n1, n2⟩ := cntV_snoc (P := fun s => vs.2.1 s ∧ mtc tp d s) hkp
          obtain ⟨q1, q2, q3, q4, q5, q6⟩ := hK.key hm v3 hkp
          have l8 := q4.1
          have nx := ih (k + 1) (by omega)
          have hha := c_mhas (La_ X) w hm hV hK hvs hkp
          rw [ei] at hha
          have t176 : ∀ (a : Int) (o7 o8 : Option AV), a = (cntV (fun s => vs.2.1 s ∧ mtc tp d s) ((M vs.1).take (k + 1)) : Nat) → Z X 176 [some (aR m), some (aI i), some (aI d), some (aI tp.length), some (aI a), some (aI (k : Int)), some (aI (64 * (vs.1 : Int) + (k : Int))), o7, o8] [] w 0 0 := fun a o7 o8 ha => by
            refine z_iinc ho dX13_match_176 rfl rfl ?_
            refine z_goto (tgt := 45) ho dX13_match_179 (by decide) ?_
            rw [ha]
            refine z_wk ?_ nx
            exact ⟨rfl, rfl, rfl, rfl, rfl, rfl, trivial⟩
          refine z_iload ho dX13_match_45 rfl ?_
          refine z_aload_n ho dX13_match_47 rfl ?_
          refine gX13_13 ho dX13_match_48 hm.1 (mget hm.r3 ?_)
          refine z_aload_n ho dX13_match_51 rfl ?_
          refine z_iload_n ho dX13_match_52 rfl ?_
          refine kX13_114 ho hN (hmo) dX13_match_53 hm.1 (Nat.le_of_ble_eq_true rfl) (Nat.le_of_ble_eq_true rfl) (Nat.le_of_ble_eq_true rfl) (Nat.le_of_ble_eq_true rfl) (fun x53 u53 h53 => ?_)
          obtain ⟨rfl, rfl⟩ := h53
          refine z_iald ho dX13_match_56 hm.k2 (by omega) (hm.t2 (by omega)) ?_
          refine z_icmp_ge (tgt := 182) ho dX13_match_57 (by decide) (by unfold rng; omega) (by rw [g1]; unfold rng; omega) (fun c57 => ?_) (fun c57 => ?_)
          · omega
          · 
            refine z_bipush ho dX13_match_60 rfl ?_
            refine z_aload_n ho dX13_match_62 rfl ?_
            refine z_iload_n ho dX13_match_63 rfl ?_
            refine kX13_114 ho hN (hmo) dX13_match_64 hm.1 (Nat.le_of_ble_eq_true rfl) (Nat.le_of_ble_eq_true rfl) (Nat.le_of_ble_eq_true rfl) (Nat.le_of_ble_eq_true rfl) (fun x64 u64 h64 => ?_)
            obtain ⟨rfl, rfl⟩ := h64
            refine z_imul ho dX13_match_67 ?_
            refine z_iload ho dX13_match_68 rfl ?_
            refine z_iadd ho dX13_match_70 ?_
            refine z_istore ho dX13_match_71 (Nat.le_of_ble_eq_true rfl) rfl ?_
            refine z_aload_n ho dX13_match_73 rfl ?_
            refine z_iload_n ho dX13_match_74 rfl ?_
            refine z_iload ho dX13_match_75 rfl ?_
            refine kX13_143 ho hN (hha) dX13_match_77 hm.1 (Nat.le_of_ble_eq_true rfl) (Nat.le_of_ble_eq_true rfl) (Nat.le_of_ble_eq_true rfl) (Nat.le_of_ble_eq_true rfl) (fun x77 u77 h77 => ?_)
            obtain ⟨rfl, hh⟩ := h77
            refine z_if_eq (tgt := 176) ho dX13_match_80 (by decide) (by rcases hh with ⟨z, -⟩ | ⟨z, -⟩ <;> rw [z] <;> unfold rng <;> omega) (fun c80 => ?_) (fun c80 => ?_)
            · exact t176 _ _ _ (by rw [n2 (fun z => (hh.resolve_left (fun z => by omega)).2 z.1)])
            · have hR := (hh.resolve_right (fun z => c80 z.1)).2
              refine z_aload_n ho dX13_match_83 rfl ?_
              refine gX13_22 ho dX13_match_84 hm.1 (mget hm.r6 ?_)
              refine z_iload ho dX13_match_87 rfl ?_
              refine z_iald ho dX13_match_89 hm.k5 (by omega) (hm.t5 (by omega)) ?_
              refine z_iload_n ho dX13_match_90 rfl ?_
              refine z_icmp_eq (tgt := 97) ho dX13_match_91 (by decide) (by rw [q1]; unfold rng; omega) (by unfold rng; omega) (fun c91 => ?_) (fun c91 => ?_)
              · rw [q1] at c91
                have hl : p.1.length = tp.length := by omega
                -- the inner loop
                have inn : ∀ (a b : Nat), a + b = tp.length → Z X 103 [some (aR m), some (aI i), some (aI d), some (aI tp.length), some (aI (cntV (fun s => vs.2.1 s ∧ mtc tp d s) ((M vs.1).take k) : Nat)), some (aI (k : Int)), some (aI (64 * (vs.1 : Int) + (k : Int))), some (aI (difN p.1 tp b : Nat)), some (aI (b : Int))] [] w 0 0 := by
                  intro a
                  induction a with
                  | zero =>
                    intro b hb
                    have hbl : b = p.1.length := by omega
                    have dle : difN p.1 tp b ≤ b := by
                      unfold difN
                      refine Nat.le_trans (List.length_filter_le _ _) ?_
                      simp
                    have t173 : ∀ c : Int, (cntV (fun s => vs.2.1 s ∧ mtc tp d s) ((M vs.1).take k) : Int) + c = (cntV (fun s => vs.2.1 s ∧ mtc tp d s) ((M vs.1).take (k + 1)) : Nat) → Z X 173 [some (aR m), some (aI i), some (aI d), some (aI tp.length), some (aI (cntV (fun s => vs.2.1 s ∧ mtc tp d s) ((M vs.1).take k) : Nat)), some (aI (k : Int)), some (aI (64 * (vs.1 : Int) + (k : Int))), some (aI (difN p.1 tp b : Nat)), some (aI (b : Int))] [aI c, aI (cntV (fun s => vs.2.1 s ∧ mtc tp d s) ((M vs.1).take k) : Nat)] w 0 0 := fun c hc => by
                      refine z_iadd ho dX13_match_173 ?_
                      refine z_istore ho dX13_match_174 (Nat.le_of_ble_eq_true rfl) rfl ?_
                      exact t176 _ _ _ hc
                    refine z_iload ho dX13_match_103 rfl ?_
                    refine z_iload_n ho dX13_match_105 rfl ?_
                    refine z_icmp_ge (tgt := 160) ho dX13_match_106 (by decide) (by unfold rng; omega) (by unfold rng; omega) (fun c106 => ?_) (fun c106 => ?_)
                    · 
                      refine z_iload ho dX13_match_160 rfl ?_
                      refine z_iload ho dX13_match_162 rfl ?_
                      refine z_iload_n ho dX13_match_164 rfl ?_
                      refine z_icmp_gt (tgt := 172) ho dX13_match_165 (by decide) (by unfold rng; omega) rd (fun c165 => ?_) (fun c165 => ?_)
                      · 
                        refine z_iconst ho dX13_match_172 ?_
                        exact t173 0 (by rw [n2 (fun z => by have := z.2.2; rw [← hbl] at this; omega)]; omega)
                      · 
                        refine z_iconst ho dX13_match_168 ?_
                        refine z_goto (tgt := 173) ho dX13_match_169 (by decide) ?_
                        exact t173 1 (by rw [n1 ⟨hR, hl, by rw [← hbl]; exact c165⟩]; omega)
                    · omega
                  | succ a iha =>
                    intro b hb
                    have nx2 := iha (b + 1) (by omega)
                    obtain ⟨e1, e2, e3⟩ := ta.at_ (j := (b : Int)) (by omega) (by omega)
                    rw [Int.zero_add] at e1 e2 e3
                    obtain ⟨f1, f2, f3⟩ := q2.at_ (j := (b : Int)) (by omega) (by omega)
                    rw [difN_succ, ← e1, ← f1] at nx2
                    have t151 : ∀ c : Int, c = (if iv_ w (m + 1) (b : Int) = 63 ∨ iv_ w (m + 1) (b : Int) = iv_ w (m + 4) (8 * (64 * (vs.1 : Int) + (k : Int)) + (b : Int)) then 0 else 1 : Nat) → Z X 151 [some (aR m), some (aI i), some (aI d), some (aI tp.length), some (aI (cntV (fun s => vs.2.1 s ∧ mtc tp d s) ((M vs.1).take k) : Nat)), some (aI (k : Int)), some (aI (64 * (vs.1 : Int) + (k : Int))), some (aI (difN p.1 tp b : Nat)), some (aI (b : Int))] [aI c, aI (difN p.1 tp b : Nat)] w 0 0 := fun c hc => by
                      refine z_iadd ho dX13_match_151 ?_
                      refine z_istore ho dX13_match_152 (Nat.le_of_ble_eq_true rfl) rfl ?_
                      refine z_iinc ho dX13_match_154 rfl rfl ?_
                      refine z_goto (tgt := 103) ho dX13_match_157 (by decide) ?_
                      rw [hc]
                      exact nx2
                    have t146 : (iv_ w (m + 1) (b : Int) = 63 ∨ iv_ w (m + 1) (b : Int) = iv_ w (m + 4) (8 * (64 * (vs.1 : Int) + (k : Int)) + (b : Int))) → Z X 146 [some (aR m), some (aI i), some (aI d), some (aI tp.length), some (aI (cntV (fun s => vs.2.1 s ∧ mtc tp d s) ((M vs.1).take k) : Nat)), some (aI (k : Int)), some (aI (64 * (vs.1 : Int) + (k : Int))), some (aI (difN p.1 tp b : Nat)), some (aI (b : Int))] [aI (difN p.1 tp b : Nat)] w 0 0 := fun hc => by
                      refine z_iconst ho dX13_match_146 ?_
                      refine z_goto (tgt := 151) ho dX13_match_147 (by decide) ?_
                      exact t151 0 (by rw [if_pos hc]; rfl)
                    refine z_iload ho dX13_match_103 rfl ?_
                    refine z_iload_n ho dX13_match_105 rfl ?_
                    refine z_icmp_ge (tgt := 160) ho dX13_match_106 (by decide) (by unfold rng; omega) (by unfold rng; omega) (fun c106 => ?_) (fun c106 => ?_)
                    · omega
                    · 
                      refine z_iload ho dX13_match_109 rfl ?_
                      refine z_aload_n ho dX13_match_111 rfl ?_
                      refine gX13_7 ho dX13_match_112 hm.1 (mget hm.r1 ?_)
                      refine z_iload ho dX13_match_115 rfl ?_
                      refine z_iald ho dX13_match_117 hm.k1 (by omega) (hm.t1 (by omega)) ?_
                      refine z_bipush ho dX13_match_118 rfl ?_
                      refine z_icmp_eq (tgt := 146) ho dX13_match_120 (by decide) (by unfold rng; omega) (by unfold rng; omega) (fun c120 => ?_) (fun c120 => ?_)
                      · exact t146 (Or.inl c120)
                      · 
                        refine z_aload_n ho dX13_match_123 rfl ?_
                        refine gX13_7 ho dX13_match_124 hm.1 (mget hm.r1 ?_)
                        refine z_iload ho dX13_match_127 rfl ?_
                        refine z_iald ho dX13_match_129 hm.k1 (by omega) (hm.t1 (by omega)) ?_
                        refine z_aload_n ho dX13_match_130 rfl ?_
                        refine gX13_19 ho dX13_match_131 hm.1 (mget hm.r5 ?_)
                        refine z_bipush ho dX13_match_134 rfl ?_
                        refine z_iload ho dX13_match_136 rfl ?_
                        refine z_imul ho dX13_match_138 ?_
                        refine z_iload ho dX13_match_139 rfl ?_
                        refine z_iadd ho dX13_match_141 ?_
                        refine z_iald ho dX13_match_142 hm.k4 (by omega) (hm.t4 (by omega)) ?_
                        refine z_icmp_ne (tgt := 150) ho dX13_match_143 (by decide) (by unfold rng; omega) (by unfold rng; omega) (fun c143 => ?_) (fun c143 => ?_)
                        · 
                          refine z_iconst ho dX13_match_150 ?_
                          exact t151 1 (by rw [if_neg (by omega)]; rfl)
                        · exact t146 (Or.inr c143)
                refine z_iconst ho dX13_match_97 ?_
                refine z_istore ho dX13_match_98 (Nat.le_of_ble_eq_true rfl) rfl ?_
                refine z_iconst ho dX13_match_100 ?_
                refine z_istore ho dX13_match_101 (Nat.le_of_ble_eq_true rfl) rfl ?_
                exact inn tp.length 0 rfl
              · rw [q1] at c91
                refine z_goto (tgt := 176) ho dX13_match_94 (by decide) ?_
                exact t176 _ _ _ (by rw [n2 (fun z => by have := z.2.1; omega)])
      refine z_iconst ho dX13_match_39 ?_
      refine z_istore ho dX13_match_40 (Nat.le_of_ble_eq_true rfl) rfl ?_
      refine z_iconst ho dX13_match_42 ?_
      refine z_istore ho dX13_match_43 (Nat.le_of_ble_eq_true rfl) rfl ?_
      exact key (M vs.1).length 0 rfl
    · 
      refine z_aload_n ho dX13_match_28 rfl ?_
      refine z_iconst ho dX13_match_29 ?_
      refine kX13_126 ho hN (c_raise _ _ hm) dX13_match_30 hm.1 (Nat.le_of_ble_eq_true rfl) (Nat.le_of_ble_eq_true rfl) (Nat.le_of_ble_eq_true rfl) (Nat.le_of_ble_eq_true rfl) (fun x30 u30 h30 => ?_)
      obtain ⟨rfl, rfl⟩ := h30
      refine r_I ho dX13_match_33 (Nat.le_of_ble_eq_true rfl) (Nat.le_of_ble_eq_true rfl) ?_
      exact Or.inr ⟨vs, hin.1, hvs, Or.inl ⟨c25, qM_raise2 h⟩⟩
  · 
    refine z_aload_n ho dX13_match_8 rfl ?_
    refine z_iconst ho dX13_match_9 ?_
    refine kX13_126 ho hN (c_raise _ _ hm) dX13_match_10 hm.1 (Nat.le_of_ble_eq_true rfl) (Nat.le_of_ble_eq_true rfl) (Nat.le_of_ble_eq_true rfl) (Nat.le_of_ble_eq_true rfl) (fun x10 u10 h10 => ?_)
    obtain ⟨rfl, rfl⟩ := h10
    refine r_I ho dX13_match_13 (Nat.le_of_ble_eq_true rfl) (Nat.le_of_ble_eq_true rfl) ?_
    exact Or.inl ⟨(hs.resolve_left (fun z => by omega)).2, qM_raise h⟩
/-! ===== the text ===== -/
theorem MTt.ta {u : Mem} {m N : Nat} {T : List Int} {Os : List (List Int)} (h : MTt u m N T Os) (hm : MF u m) : TA u (m + 26) 0 T := ⟨hm.k26, by decide, by rw [hm.l26]; have := h.1.2.2.1; omega, h.1.2.1, by have := h.1.2.2.1; omega, h.1.2.2.2⟩
theorem TA.drop {u : Mem} {a : Nat} {s : List Int} (h : TA u a 0 s) {n : Nat} (hn : n ≤ s.length) : TA u a (n : Int) (s.drop n) := by
  obtain ⟨h1, h2, h3, h4, h5, h6⟩ := h
  have e : (s.drop n).length = s.length - n := List.length_drop
  refine ⟨h1, by omega, by rw [e]; omega, ?_, by rw [e]; omega, fun c hc => h6 c (List.mem_of_mem_drop hc)⟩
  have := sub_drop (iv_ u a) 0 hn
  rw [h4, Int.zero_add] at this
  rw [e, this]
theorem c_mletter (l : Launch) (u : Mem) {m N : Nat} {i : Int} {tp fd : List Int} {M : Nat → List KV} {ch : Nat → Int} {VL : List VS} {Ks : List (List Int)} {T : List Int} {Os : List (List Int)} (h : MS u m N tp fd M ch VL Ks T Os) (ri : rng i) : Mt_ l yX13_letter cX13_letter 4 (some .int) 0 0 0 [aR m, aI i] u (qI fun r v => qM m N u 0 tp fd M ch VL Ks T Os v ∧ r = if i = -1 then (T.length : Int) else if i = -2 then sumT T else if 0 ≤ i ∧ i < T.length then _root_.Jvm.Pilot.CKeyHallLaw_law_r3948_e91dda.ch T i else -1) := by
  have HQ : qM m N u 0 tp fd M ch VL Ks T Os (wI_ u m 0 0) := qM_raise h
  have hm := h.1
  have hT := HQ.2.2.2.2.2.2.2.2.2.1
  have e34 := hT.1.1
  have t120 := hT.1.2.2.1
  have ta := hT.ta hm
  refine Mt_of (by decide) (Nat.le_of_ble_eq_true rfl) (fun X ho hX hN hI => ?_)
  subst hX
  show Z X 0 [some (aR m), some (aI i), none, none] [] u 0 0
  refine z_aload_n ho dX13_letter_0 rfl ?_
  refine z_iconst ho dX13_letter_1 ?_
  refine pX13_99 ho dX13_letter_2 hm.1  ?_
  refine z_iload_n ho dX13_letter_5 rfl ?_
  refine z_iconst ho dX13_letter_6 ?_
  refine z_icmp_ne (tgt := 15) ho dX13_letter_7 (by decide) ri (by unfold rng; omega) (fun c7 => ?_) (fun c7 => ?_)
  · 
    refine z_iload_n ho dX13_letter_15 rfl ?_
    refine z_bipush ho dX13_letter_16 rfl ?_
    refine z_icmp_ne (tgt := 53) ho dX13_letter_18 (by decide) ri (by unfold rng; omega) (fun c18 => ?_) (fun c18 => ?_)
    · have no : ¬ (0 ≤ i ∧ i < (T.length : Int)) → Z X 65 [some (aR m), some (aI i), none, none] [] (wI_ u m 0 0) 0 0 := fun hn => by
        refine z_iconst ho dX13_letter_65 ?_
        refine z_goto (tgt := 75) ho dX13_letter_66 (by decide) ?_
        refine r_I ho dX13_letter_75 (Nat.le_of_ble_eq_true rfl) (Nat.le_of_ble_eq_true rfl) ?_
        exact ⟨HQ, by rw [if_neg c7, if_neg c18, if_neg hn]⟩
      refine z_iload_n ho dX13_letter_53 rfl ?_
      refine z_if_lt (tgt := 65) ho dX13_letter_54 (by decide) ri (fun c54 => ?_) (fun c54 => ?_)
      · exact no (by omega)
      · 
        refine z_iload_n ho dX13_letter_57 rfl ?_
        refine z_aload_n ho dX13_letter_58 rfl ?_
        refine gX13_232 ho dX13_letter_59 hm.1 ?_
        refine z_icmp_lt (tgt := 69) ho dX13_letter_62 (by decide) ri (by rw [e34]; unfold rng; omega) (fun c62 => ?_) (fun c62 => ?_)
        · rw [e34] at c62
          refine z_aload_n ho dX13_letter_69 rfl ?_
          refine gX13_90 ho dX13_letter_70 hm.1 (mget hm.r33 ?_)
          refine z_iload_n ho dX13_letter_73 rfl ?_
          refine z_iald ho dX13_letter_74 hm.k26 (by omega) (hm.t26 (by omega)) ?_
          refine r_I ho dX13_letter_75 (Nat.le_of_ble_eq_true rfl) (Nat.le_of_ble_eq_true rfl) ?_
          have e := (ta.at_ (j := i) (by omega) (by omega)).1
          rw [Int.zero_add] at e
          exact ⟨HQ, by rw [if_neg c7, if_neg c18, if_pos ⟨by omega, c62⟩]; exact e⟩
        · rw [e34] at c62
          exact no (by omega)
    · have key : ∀ (a b : Nat), a + b = T.length → Z X 25 [some (aR m), some (aI i), some (aI (sumT (T.take b))), some (aI (b : Int))] [] (wI_ u m 0 0) 0 0 := by
        intro a
        induction a with
        | zero =>
          intro b hb
          refine z_iload_n ho dX13_letter_25 rfl ?_
          refine z_aload_n ho dX13_letter_26 rfl ?_
          refine gX13_232 ho dX13_letter_27 hm.1 ?_
          refine z_icmp_ge (tgt := 51) ho dX13_letter_30 (by decide) (by unfold rng; omega) (by rw [e34]; unfold rng; omega) (fun c30 => ?_) (fun c30 => ?_)
          · 
            refine z_iload_n ho dX13_letter_51 rfl ?_
            refine r_I ho dX13_letter_52 (Nat.le_of_ble_eq_true rfl) (Nat.le_of_ble_eq_true rfl) ?_
            exact ⟨HQ, by rw [if_neg c7, if_pos c18, List.take_of_length_le (by omega)]⟩
          · omega
        | succ a ih =>
          intro b hb
          have nx := ih (b + 1) (by omega)
          have e := (ta.at_ (j := (b : Int)) (by omega) (by omega)).1
          rw [Int.zero_add] at e
          have es : sumT (T.take (b + 1)) = 31 * sumT (T.take b) + iv_ (wI_ u m 0 0) (m + 26) (b : Int) := by
            have hb' : b < T.length := by omega
            unfold sumT
            rw [List.take_add_one, List.foldl_append, e]
            unfold _root_.Jvm.Pilot.CKeyHallLaw_law_r3948_e91dda.ch
            simp [hb']
          rw [es] at nx
          refine z_iload_n ho dX13_letter_25 rfl ?_
          refine z_aload_n ho dX13_letter_26 rfl ?_
          refine gX13_232 ho dX13_letter_27 hm.1 ?_
          refine z_icmp_ge (tgt := 51) ho dX13_letter_30 (by decide) (by unfold rng; omega) (by rw [e34]; unfold rng; omega) (fun c30 => ?_) (fun c30 => ?_)
          · omega
          · 
            refine z_bipush ho dX13_letter_33 rfl ?_
            refine z_iload_n ho dX13_letter_35 rfl ?_
            refine z_imul ho dX13_letter_36 ?_
            refine z_aload_n ho dX13_letter_37 rfl ?_
            refine gX13_90 ho dX13_letter_38 hm.1 (mget hm.r33 ?_)
            refine z_iload_n ho dX13_letter_41 rfl ?_
            refine z_iald ho dX13_letter_42 hm.k26 (by omega) (hm.t26 (by omega)) ?_
            refine z_iadd ho dX13_letter_43 ?_
            refine z_istore_n ho dX13_letter_44 (Nat.le_of_ble_eq_true rfl) rfl ?_
            refine z_iinc ho dX13_letter_45 rfl rfl ?_
            refine z_goto (tgt := 25) ho dX13_letter_48 (by decide) ?_
            exact nx
      refine z_iconst ho dX13_letter_21 ?_
      refine z_istore_n ho dX13_letter_22 (Nat.le_of_ble_eq_true rfl) rfl ?_
      refine z_iconst ho dX13_letter_23 ?_
      refine z_istore_n ho dX13_letter_24 (Nat.le_of_ble_eq_true rfl) rfl ?_
      exact key T.length 0 rfl
  · 
    refine z_aload_n ho dX13_letter_10 rfl ?_
    refine gX13_232 ho dX13_letter_11 hm.1 ?_
    refine r_I ho dX13_letter_14 (Nat.le_of_ble_eq_true rfl) (Nat.le_of_ble_eq_true rfl) ?_
    exact ⟨HQ, by rw [if_pos c7]; exact e34⟩
