set_option maxRecDepth 100000
/-! ===== KeyHallModel: delete, undo, begin, suffix, locate ===== -/
theorem c_mdelete (l : Launch) (u : Mem) {m N : Nat} {i k : Int} {tp fd : List Int} {M : Nat → List KV} {ch : Nat → Int} {VL : List VS} {Ks : List (List Int)} {T : List Int} {Os : List (List Int)} (h : MS u m N tp fd M ch VL Ks T Os) (ri : rng i) (rk : rng k) (hN1 : N + 1 ≤ 1000) :
    Mt_ l yX13_delete cX13_delete 4 (some .int) 2 0 0 [aR m, aI i, aI k] u (qI fun r v => (¬ (0 ≤ i ∧ i ≤ k ∧ k ≤ T.length) ∧ qM m N u 1 tp fd M ch VL Ks T Os v) ∨ (0 ≤ i ∧ i ≤ k ∧ k ≤ T.length ∧ r = (T.take i.toNat ++ T.drop k.toNat).length ∧ qM m (N + 1) u 0 tp fd M ch VL Ks (T.take i.toNat ++ T.drop k.toNat) (psh Os T) v)) := by
  have hm := h.1
  have hT := h.2.2.2.2.2.2.2.1
  have e34 := hT.1.1
  have t120 := hT.1.2.2.1
  refine Mt_of (by decide) (Nat.le_of_ble_eq_true rfl) (fun X ho hX hN hI => ?_)
  subst hX
  show Z X 0 [some (aR m), some (aI i), some (aI k), none] [] u 0 0
  have bad : ¬ (0 ≤ i ∧ i ≤ k ∧ k ≤ (T.length : Int)) → Z X 17 [some (aR m), some (aI i), some (aI k), none] [] u 0 0 := fun hn => by
    refine z_aload_n ho dX13_delete_17 rfl ?_
    refine z_iconst ho dX13_delete_18 ?_
    refine kX13_126 ho hN (c_raise _ _ hm) dX13_delete_19 hm.1 (Nat.le_of_ble_eq_true rfl) (Nat.le_of_ble_eq_true rfl) (Nat.le_of_ble_eq_true rfl) (Nat.le_of_ble_eq_true rfl) (fun x19 u19 h19 => ?_)
    obtain ⟨rfl, rfl⟩ := h19
    refine r_I ho dX13_delete_22 (Nat.le_of_ble_eq_true rfl) (Nat.le_of_ble_eq_true rfl) ?_
    exact Or.inl ⟨hn, qM_raise h⟩
  refine z_iload_n ho dX13_delete_0 rfl ?_
  refine z_if_lt (tgt := 17) ho dX13_delete_1 (by decide) ri (fun c1 => ?_) (fun c1 => ?_)
  · exact bad (by omega)
  · 
    refine z_iload_n ho dX13_delete_4 rfl ?_
    refine z_iload_n ho dX13_delete_5 rfl ?_
    refine z_icmp_lt (tgt := 17) ho dX13_delete_6 (by decide) rk ri (fun c6 => ?_) (fun c6 => ?_)
    · exact bad (by omega)
    · 
      refine z_iload_n ho dX13_delete_9 rfl ?_
      refine z_aload_n ho dX13_delete_10 rfl ?_
      refine gX13_232 ho dX13_delete_11 hm.1 ?_
      refine z_icmp_le (tgt := 23) ho dX13_delete_14 (by decide) rk (by rw [e34]; unfold rng; omega) (fun c14 => ?_) (fun c14 => ?_)
      · rw [e34] at c14
        have c0 : Cg m u (wI_ u m 0 0) [0] [] := (Cg.rf m u _ _).f 0 0 (by decide)
        have f0 : iv_ (wI_ u m 0 0) m 0 = 0 := by rw [iv_wI, if_pos ⟨rfl, rfl⟩]
        refine z_aload_n ho dX13_delete_23 rfl ?_
        refine z_iconst ho dX13_delete_24 ?_
        refine pX13_99 ho dX13_delete_25 hm.1  ?_
        refine z_aload_n ho dX13_delete_28 rfl ?_
        refine kX13_237 ho hN (c_keep _ _ hm (hT.cg c0 (by decide) (by decide)) hN1) dX13_delete_29 hm.1 (Nat.le_of_ble_eq_true rfl) (Nat.le_of_ble_eq_true rfl) (Nat.le_of_ble_eq_true rfl) (Nat.le_of_ble_eq_true rfl) (fun u29 h29 => ?_)
        obtain ⟨g1, g2⟩ := h29
        have hC : Cg m u u29 [0, 34, 37, 38] [26, 27, 28] := (c0.mono (by decide) (by decide)).tr (g1.mono (by decide) (by decide))
        have f0' : iv_ u29 m 0 = 0 := by rw [g1.2.1 0 (by decide)]; exact f0
        generalize u29 = w at *
        have hm := hm.im hC.1
        have x34 := g2.1.1
        obtain ⟨⟨-, s2, -, s4⟩, gO, gP⟩ := g2
        obtain ⟨a, rfl⟩ : ∃ a : Nat, i = (a : Int) := ⟨i.toNat, by omega⟩
        obtain ⟨b, rfl⟩ : ∃ b : Nat, k = (b : Int) := ⟨k.toNat, by omega⟩
        simp only [Int.toNat_natCast] at ho
        have l1 : ∀ (d n : Nat), d + n = T.length → b ≤ n → Z X 34 [some (aR m), some (aI (a : Int)), some (aI (b : Int)), some (aI (n : Int))] [] (upA w (m + 26) (fun j => if (a : Int) ≤ j ∧ j < n - b + a then iv_ w (m + 26) (j + b - a) else iv_ w (m + 26) j)) 0 0 := by
          intro d
          induction d with
          | zero =>
            intro n hn hbn
            have hnT : (n : Int) = (T.length : Int) := by omega
            have hm2 : MF (upA w (m + 26) (fun j => if (a : Int) ≤ j ∧ j < n - b + a then iv_ w (m + 26) (j + b - a) else iv_ w (m + 26) j)) m := hm
            have y34 : iv_ (upA w (m + 26) (fun j => if (a : Int) ≤ j ∧ j < n - b + a then iv_ w (m + 26) (j + b - a) else iv_ w (m + 26) j)) m 34 = (T.length : Int) := by rw [upA_o (by omega)]; exact x34
            generalize hf : (fun j : Int => if (a : Int) ≤ j ∧ j < n - b + a then iv_ w (m + 26) (j + b - a) else iv_ w (m + 26) j) = f at *
            have fj : ∀ j : Int, f j = if (a : Int) ≤ j ∧ j < n - b + a then iv_ w (m + 26) (j + b - a) else iv_ w (m + 26) j := fun j => by rw [← hf]
            refine z_iload_n ho dX13_delete_34 rfl ?_
            refine z_aload_n ho dX13_delete_35 rfl ?_
            refine gX13_232 ho dX13_delete_36 hm2.1 ?_
            refine z_icmp_ge (tgt := 64) ho dX13_delete_39 (by decide) (by unfold rng; omega) (by rw [y34]; unfold rng; omega) (fun c39 => ?_) (fun c39 => ?_)
            · 
              refine z_aload_n ho dX13_delete_64 rfl ?_
              refine z_dup ho dX13_delete_65 rfl ?_
              refine gX13_232 ho dX13_delete_66 hm2.1 ?_
              rw [y34]
              refine z_iload_n ho dX13_delete_69 rfl ?_
              refine z_iload_n ho dX13_delete_70 rfl ?_
              refine z_isub ho dX13_delete_71 ?_
              refine z_isub ho dX13_delete_72 ?_
              refine pX13_232 ho dX13_delete_73 hm2.1  ?_
              refine z_aload_n ho dX13_delete_76 rfl ?_
              refine gX13_232 ho dX13_delete_77 hm2.1 ?_
              refine r_I ho dX13_delete_80 (Nat.le_of_ble_eq_true rfl) (Nat.le_of_ble_eq_true rfl) ?_
              have tx : sub_ f 0 (a + (T.length - b)) = T.take a ++ T.drop b := by
                rw [sub_add, Int.zero_add]
                congr 1
                · conv => rhs; rw [← s2]
                  rw [sub_take _ _ (by omega)]
                  exact sub_ext (fun y y0 y1 => by rw [Int.zero_add, fj, if_neg (by omega)])
                · conv => rhs; rw [← s2]
                  rw [sub_drop _ _ (by omega)]
                  refine sub_ext (fun y y0 y1 => ?_)
                  rw [fj, if_pos (by omega)]
                  congr 1; omega
              have hlen : (T.take a ++ T.drop b).length = a + (T.length - b) := by rw [← tx, sub_len]
              have cc : ∀ c ∈ T.take a ++ T.drop b, 0 ≤ c ∧ c < 65536 := fun c hc => by
                rcases List.mem_append.mp hc with z | z
                · exact s4 c (List.mem_of_mem_take z)
                · exact s4 c (List.mem_of_mem_drop z)
              have hC2 : Cg m u (wI_ (upA w (m + 26) f) m 34 ((T.length : Int) - ((b : Int) - (a : Int)))) [0, 34, 37, 38] [26, 27, 28] := (upA_cg hC (by decide) (by decide) (by decide)).f 34 _ (by decide)
              have z34 : iv_ (wI_ (upA w (m + 26) f) m 34 ((T.length : Int) - ((b : Int) - (a : Int)))) m 34 = (T.length : Int) - ((b : Int) - (a : Int)) := by rw [iv_wI, if_pos ⟨rfl, rfl⟩]
              have zo : ∀ k : Int, k ≠ 34 → iv_ (wI_ (upA w (m + 26) f) m 34 ((T.length : Int) - ((b : Int) - (a : Int)))) m k = iv_ w m k := fun k hk => by rw [iv_wI, if_neg (fun z => hk z.2), upA_o (by omega)]
              have z26 : iv_ (wI_ (upA w (m + 26) f) m 34 ((T.length : Int) - ((b : Int) - (a : Int)))) (m + 26) = f := by rw [ivf (by omega), upA_s]
              have zz : ∀ b' : Nat, b' ≠ m + 26 → b' ≠ m → iv_ (wI_ (upA w (m + 26) f) m 34 ((T.length : Int) - ((b : Int) - (a : Int)))) b' = iv_ w b' := fun b' hb hb' => by rw [ivf hb', upA_o hb]
              generalize wI_ (upA w (m + 26) f) m 34 ((T.length : Int) - ((b : Int) - (a : Int))) = v at *
              obtain ⟨b1, b2, b3, b4, b5, b6, b7, b8, b9⟩ := h
              rw [z34]
              refine Or.inr ⟨by omega, by omega, by omega, by rw [hlen]; omega, hC2.1, by rw [zo 0 (by decide)]; exact f0', b1.im hC2.1, b2.cg hC2 (by decide) (by decide), b3.cg hC2 (by decide) (by decide), b4.cg hC2 (by decide), b5.cg hC2 (by decide) (by decide), b6.cg hC2 (by decide), b7.cg hC2 (by decide) (by decide), ⟨⟨by rw [z34, hlen]; omega, by rw [z26, hlen]; exact tx, by rw [hlen]; omega, cc⟩, by rw [zo 38 (by decide), zo 37 (by decide)]; exact gO, fun j O hj => by rw [zo 37 (by decide), zz _ (by omega) (by omega), zz _ (by omega) (by omega)]; exact gP j O hj⟩, b9⟩
            · omega
          | succ d ih =>
            intro n hn hbn
            have nx := ih (n + 1) (by omega) (by omega)
            have hm2 : MF (upA w (m + 26) (fun j => if (a : Int) ≤ j ∧ j < n - b + a then iv_ w (m + 26) (j + b - a) else iv_ w (m + 26) j)) m := hm
            have y34 : iv_ (upA w (m + 26) (fun j => if (a : Int) ≤ j ∧ j < n - b + a then iv_ w (m + 26) (j + b - a) else iv_ w (m + 26) j)) m 34 = (T.length : Int) := by rw [upA_o (by omega)]; exact x34
            have et : iv_ (upA w (m + 26) (fun j => if (a : Int) ≤ j ∧ j < n - b + a then iv_ w (m + 26) (j + b - a) else iv_ w (m + 26) j)) (m + 26) (n : Int) = iv_ w (m + 26) (n : Int) := by rw [upA_s, if_neg (by omega)]
            refine z_iload_n ho dX13_delete_34 rfl ?_
            refine z_aload_n ho dX13_delete_35 rfl ?_
            refine gX13_232 ho dX13_delete_36 hm2.1 ?_
            refine z_icmp_ge (tgt := 64) ho dX13_delete_39 (by decide) (by unfold rng; omega) (by rw [y34]; unfold rng; omega) (fun c39 => ?_) (fun c39 => ?_)
            · omega
            · 
              refine z_aload_n ho dX13_delete_42 rfl ?_
              refine gX13_90 ho dX13_delete_43 hm2.1 (mget hm2.r33 ?_)
              refine z_iload_n ho dX13_delete_46 rfl ?_
              refine z_iload_n ho dX13_delete_47 rfl ?_
              refine z_isub ho dX13_delete_48 ?_
              refine z_iload_n ho dX13_delete_49 rfl ?_
              refine z_iadd ho dX13_delete_50 ?_
              refine z_aload_n ho dX13_delete_51 rfl ?_
              refine gX13_90 ho dX13_delete_52 hm2.1 (mget hm2.r33 ?_)
              refine z_iload_n ho dX13_delete_55 rfl ?_
              refine z_iald ho dX13_delete_56 hm2.k26 (by omega) (hm2.t26 (by omega)) ?_
              refine z_iast ho dX13_delete_57 hm2.k26 (by omega) (hm2.t26 (by omega)) ?_
              refine z_iinc ho dX13_delete_58 rfl rfl ?_
              refine z_goto (tgt := 34) ho dX13_delete_61 (by decide) ?_
              rw [et, upA_w]
              have ef : (fun j : Int => if j = (n : Int) - (b : Int) + (a : Int) then iv_ w (m + 26) (n : Int) else if (a : Int) ≤ j ∧ j < n - b + a then iv_ w (m + 26) (j + b - a) else iv_ w (m + 26) j) = (fun j => if (a : Int) ≤ j ∧ j < ((n + 1 : Nat) : Int) - b + a then iv_ w (m + 26) (j + b - a) else iv_ w (m + 26) j) := by
                funext j
                by_cases z : j = (n : Int) - (b : Int) + (a : Int)
                · rw [if_pos z, if_pos (by omega)]
                  congr 1; omega
                · rw [if_neg z]
                  by_cases y : (a : Int) ≤ j ∧ j < n - b + a
                  · rw [if_pos y, if_pos (by omega)]
                  · rw [if_neg y, if_neg (by omega)]
              rw [ef]
              exact nx
        have k0 := l1 (T.length - b) b (by omega) (Nat.le_refl _)
        have ef : (fun j : Int => if (a : Int) ≤ j ∧ j < (b : Int) - b + a then iv_ w (m + 26) (j + b - a) else iv_ w (m + 26) j) = iv_ w (m + 26) := funext fun j => by rw [if_neg (by omega)]
        rw [ef, upA_r] at k0
        refine z_iload_n ho dX13_delete_32 rfl ?_
        refine z_istore_n ho dX13_delete_33 (Nat.le_of_ble_eq_true rfl) rfl ?_
        exact k0
      · rw [e34] at c14
        exact bad (by omega)
theorem c_mundo (l : Launch) (u : Mem) {m N : Nat} {tp fd : List Int} {M : Nat → List KV} {ch : Nat → Int} {VL : List VS} {Ks : List (List Int)} {T : List Int} {Os : List (List Int)} (h : MS u m N tp fd M ch VL Ks T Os) :
    Mt_ l yX13_undo cX13_undo 3 (some .int) 0 0 0 [aR m] u (qI fun r v => (Os = [] ∧ r = -1 ∧ qM m N u 0 tp fd M ch VL Ks T Os v) ∨ (∃ Ps R, Os = Ps ++ [R] ∧ r = R.length ∧ qM m N u 0 tp fd M ch VL Ks R Ps v)) := by
  have hm := h.1
  have HQ : qM m N u 0 tp fd M ch VL Ks T Os (wI_ u m 0 0) := qM_raise h
  obtain ⟨⟨t1, t2, t3, t4⟩, ⟨o1, o2, o3, o4, o5⟩, op⟩ := h.2.2.2.2.2.2.2.1
  have e38 : iv_ (wI_ u m 0 0) m 38 = (Os.length : Int) := by rw [iv_wI, if_neg (by omega)]; exact o1
  refine Mt_of (by decide) (Nat.le_of_ble_eq_true rfl) (fun X ho hX hN hI => ?_)
  subst hX
  show Z X 0 [some (aR m), none, none] [] u 0 0
  refine z_aload_n ho dX13_undo_0 rfl ?_
  refine z_iconst ho dX13_undo_1 ?_
  refine pX13_99 ho dX13_undo_2 hm.1  ?_
  refine z_aload_n ho dX13_undo_5 rfl ?_
  refine gX13_234 ho dX13_undo_6 hm.1 ?_
  refine z_if_ne (tgt := 14) ho dX13_undo_9 (by decide) (by rw [e38]; unfold rng; omega) (fun c9 => ?_) (fun c9 => ?_)
  · rw [e38] at c9
    rcases List.eq_nil_or_concat Os with hO | ⟨Ps, R, hO⟩
    · rw [hO] at c9; simp at c9
    · rw [List.concat_eq_append] at hO
      have hlO : Os.length = Ps.length + 1 := by rw [hO]; simp
      have hR := op Ps.length R (by rw [hO]; simp)
      generalize he : iv_ u m 37 = ed at *
      have e0 : 0 ≤ (ed - 1) % 21 := by omega
      have e1 : (ed - 1) % 21 < 21 := by omega
      rw [show ed - (Os.length : Int) + (Ps.length : Int) = ed - 1 by omega] at hR
      obtain ⟨r1, r2, r3, r4⟩ := hR
      have e37 : iv_ (wI_ (wI_ u m 0 0) m 38 ((Os.length : Int) - 1)) m 37 = ed := by rw [iv_wI, if_neg (by omega), iv_wI, if_neg (by omega)]; exact he
      refine z_aload_n ho dX13_undo_14 rfl ?_
      refine z_dup ho dX13_undo_15 rfl ?_
      refine gX13_234 ho dX13_undo_16 hm.1 ?_
      rw [e38]
      refine z_iconst ho dX13_undo_19 ?_
      refine z_isub ho dX13_undo_20 ?_
      refine pX13_234 ho dX13_undo_21 hm.1  ?_
      refine z_aload_n ho dX13_undo_24 rfl ?_
      refine z_dup ho dX13_undo_25 rfl ?_
      refine gX13_229 ho dX13_undo_26 hm.1 ?_
      rw [e37]
      refine z_iconst ho dX13_undo_29 ?_
      refine z_isub ho dX13_undo_30 ?_
      refine pX13_229 ho dX13_undo_31 hm.1  ?_
      have c1 : Cg m u (wI_ (wI_ (wI_ u m 0 0) m 38 ((Os.length : Int) - 1)) m 37 (ed - 1)) [0, 34, 37, 38] [26] := (((Cg.rf m u _ _).f 0 0 (by decide)).f 38 _ (by decide)).f 37 _ (by decide)
      have f37 : iv_ (wI_ (wI_ (wI_ u m 0 0) m 38 ((Os.length : Int) - 1)) m 37 (ed - 1)) m 37 = ed - 1 := by rw [iv_wI, if_pos ⟨rfl, rfl⟩]
      have f38 : iv_ (wI_ (wI_ (wI_ u m 0 0) m 38 ((Os.length : Int) - 1)) m 37 (ed - 1)) m 38 = (Os.length : Int) - 1 := by rw [iv_wI, if_neg (by omega), iv_wI, if_pos ⟨rfl, rfl⟩]
      have f0 : iv_ (wI_ (wI_ (wI_ u m 0 0) m 38 ((Os.length : Int) - 1)) m 37 (ed - 1)) m 0 = 0 := by rw [iv_wI, if_neg (by omega), iv_wI, if_neg (by omega), iv_wI, if_pos ⟨rfl, rfl⟩]
      generalize wI_ (wI_ (wI_ u m 0 0) m 38 ((Os.length : Int) - 1)) m 37 (ed - 1) = w at *
      have hm1 := hm.im c1.1
      have x28 : iv_ w (m + 28) = iv_ u (m + 28) := c1.2.2 28 (by decide) (by decide)
      have x27 : iv_ w (m + 27) = iv_ u (m + 27) := c1.2.2 27 (by decide) (by decide)
      refine z_aload_n ho dX13_undo_34 rfl ?_
      refine gX13_229 ho dX13_undo_35 hm1.1 ?_
      rw [f37]
      refine z_bipush ho dX13_undo_38 rfl ?_
      refine z_irem ho dX13_undo_40 (by omega) (by omega) (by omega) (by omega) ?_
      refine z_istore_n ho dX13_undo_41 (Nat.le_of_ble_eq_true rfl) rfl ?_
      refine z_aload_n ho dX13_undo_42 rfl ?_
      refine z_aload_n ho dX13_undo_43 rfl ?_
      refine gX13_96 ho dX13_undo_44 hm1.1 (mget hm1.r36 ?_)
      refine z_iload_n ho dX13_undo_47 rfl ?_
      refine z_iald ho dX13_undo_48 hm1.k28 (by omega) (hm1.t28 (by omega)) ?_
      rw [x28, r1]
      refine pX13_232 ho dX13_undo_49 hm1.1  ?_
      refine z_iconst ho dX13_undo_52 ?_
      refine z_istore_n ho dX13_undo_53 (Nat.le_of_ble_eq_true rfl) rfl ?_
      have c2 : Cg m u (wI_ w m 34 (R.length : Int)) [0, 34, 37, 38] [26] := c1.f 34 _ (by decide)
      have g34 : iv_ (wI_ w m 34 (R.length : Int)) m 34 = (R.length : Int) := by rw [iv_wI, if_pos ⟨rfl, rfl⟩]
      have g37 : iv_ (wI_ w m 34 (R.length : Int)) m 37 = ed - 1 := by rw [iv_wI, if_neg (by omega)]; exact f37
      have g38 : iv_ (wI_ w m 34 (R.length : Int)) m 38 = (Os.length : Int) - 1 := by rw [iv_wI, if_neg (by omega)]; exact f38
      have g0 : iv_ (wI_ w m 34 (R.length : Int)) m 0 = 0 := by rw [iv_wI, if_neg (by omega)]; exact f0
      generalize wI_ w m 34 (R.length : Int) = w1 at *
      have hm2 := hm.im c2.1
      have y27 : iv_ w1 (m + 27) = iv_ u (m + 27) := c2.2.2 27 (by decide) (by decide)
      have y28 : iv_ w1 (m + 28) = iv_ u (m + 28) := c2.2.2 28 (by decide) (by decide)
      have key : ∀ (a b : Nat), a + b = R.length → Z X 54 [some (aR m), some (aI ((ed - 1) % 21)), some (aI (b : Int))] [] (cpA w1 (m + 26) (m + 27) 0 (120 * ((ed - 1) % 21)) b) 0 0 := by
        intro a
        induction a with
        | zero =>
          intro b hb
          have hbl : b = R.length := by omega
          have c3 : Cg m u (cpA w1 (m + 26) (m + 27) 0 (120 * ((ed - 1) % 21)) b) [0, 34, 37, 38] [26] := cpA_cg c2 (by decide) (by decide) (by decide)
          have t4' := cpA_sub (u := w1) (a := m + 26) (b := m + 27) (d := 0) (s := 120 * ((ed - 1) % 21)) (t := R) (by rw [y27]; exact r2)
          rw [← hbl] at t4'
          have oth : ∀ c, c ≠ m + 26 → iv_ (cpA w1 (m + 26) (m + 27) 0 (120 * ((ed - 1) % 21)) b) c = iv_ w1 c := fun c hc => cpA_o hc
          have hm3 : MF (cpA w1 (m + 26) (m + 27) 0 (120 * ((ed - 1) % 21)) b) m := hm2
          generalize cpA w1 (m + 26) (m + 27) 0 (120 * ((ed - 1) % 21)) b = v at *
          have z34 : iv_ v m 34 = (R.length : Int) := by rw [oth _ (by omega)]; exact g34
          refine z_iload_n ho dX13_undo_54 rfl ?_
          refine z_aload_n ho dX13_undo_55 rfl ?_
          refine gX13_232 ho dX13_undo_56 hm3.1 ?_
          refine z_icmp_ge (tgt := 85) ho dX13_undo_59 (by decide) (by unfold rng; omega) (by rw [z34]; unfold rng; omega) (fun c59 => ?_) (fun c59 => ?_)
          · 
            refine z_aload_n ho dX13_undo_85 rfl ?_
            refine gX13_232 ho dX13_undo_86 hm3.1 ?_
            refine r_I ho dX13_undo_89 (Nat.le_of_ble_eq_true rfl) (Nat.le_of_ble_eq_true rfl) ?_
            obtain ⟨b1, b2, b3, b4, b5, b6, b7, b8, b9⟩ := h
            refine Or.inr ⟨Ps, R, hO, z34, c3.1, by rw [oth _ (by omega)]; exact g0, hm3, b2.cg c3 (by decide) (by decide), b3.cg c3 (by decide) (by decide), b4.cg c3 (by decide), b5.cg c3 (by decide) (by decide), b6.cg c3 (by decide), b7.cg c3 (by decide) (by decide), ⟨⟨z34, by rw [hbl] at t4'; exact t4', r3, r4⟩, ⟨by rw [oth _ (by omega), g38]; omega, by omega, by rw [oth _ (by omega), g37]; omega, by rw [oth _ (by omega), g37]; omega, o5⟩, fun j O hj => ?_⟩, b9⟩
            rw [oth m (by omega), oth (m + 28) (by omega), oth (m + 27) (by omega), g37, y27, y28]
            have hjl := (List.getElem?_eq_some_iff.mp hj).1
            have := op j O (by rw [hO, List.getElem?_append_left hjl]; exact hj)
            rw [show ed - 1 - (Ps.length : Int) + (j : Int) = ed - (Os.length : Int) + (j : Int) by omega]
            exact this
          · omega
        | succ a ih =>
          intro b hb
          have nx := ih (b + 1) (by omega)
          obtain ⟨s1, s2⟩ := cpA_s (u := w1) (a := m + 26) (b := m + 27) (d := 0) (s := 120 * ((ed - 1) % 21)) (by omega) b
          rw [Int.zero_add] at s2
          have hm3 : MF (cpA w1 (m + 26) (m + 27) 0 (120 * ((ed - 1) % 21)) b) m := hm2
          have z34 : iv_ (cpA w1 (m + 26) (m + 27) 0 (120 * ((ed - 1) % 21)) b) m 34 = (R.length : Int) := by rw [cpA_o (by omega)]; exact g34
          refine z_iload_n ho dX13_undo_54 rfl ?_
          refine z_aload_n ho dX13_undo_55 rfl ?_
          refine gX13_232 ho dX13_undo_56 hm3.1 ?_
          refine z_icmp_ge (tgt := 85) ho dX13_undo_59 (by decide) (by unfold rng; omega) (by rw [z34]; unfold rng; omega) (fun c59 => ?_) (fun c59 => ?_)
          · omega
          · 
            refine z_aload_n ho dX13_undo_62 rfl ?_
            refine gX13_90 ho dX13_undo_63 hm3.1 (mget hm3.r33 ?_)
            refine z_iload_n ho dX13_undo_66 rfl ?_
            refine z_aload_n ho dX13_undo_67 rfl ?_
            refine gX13_93 ho dX13_undo_68 hm3.1 (mget hm3.r35 ?_)
            refine z_bipush ho dX13_undo_71 rfl ?_
            refine z_iload_n ho dX13_undo_73 rfl ?_
            refine z_imul ho dX13_undo_74 ?_
            refine z_iload_n ho dX13_undo_75 rfl ?_
            refine z_iadd ho dX13_undo_76 ?_
            refine z_iald ho dX13_undo_77 hm3.k27 (by omega) (hm3.t27 (by omega)) ?_
            refine z_iast ho dX13_undo_78 hm3.k26 (by omega) (hm3.t26 (by omega)) ?_
            refine z_iinc ho dX13_undo_79 rfl rfl ?_
            refine z_goto (tgt := 54) ho dX13_undo_82 (by decide) ?_
            rw [s1, s2]
            exact nx
      have k0 := key R.length 0 rfl
      rw [show ((0 : Nat) : Int) = 0 from rfl, cpA_0] at k0
      exact k0
  · rw [e38] at c9
    refine z_iconst ho dX13_undo_12 ?_
    refine r_I ho dX13_undo_13 (Nat.le_of_ble_eq_true rfl) (Nat.le_of_ble_eq_true rfl) ?_
    exact Or.inl ⟨List.eq_nil_of_length_eq_zero (by omega), rfl, HQ⟩
