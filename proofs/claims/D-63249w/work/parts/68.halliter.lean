set_option maxRecDepth 100000
/-! ===== KeyHall: iterate, automaton, edges ===== -/
/-- one view changes -/
theorem HS.vset {u v : Mem} {x j : Nat} {tp fd : List Int} {M : Nat → List KV} {ch : Nat → Int} {VL : List VS} {Ks : List (List Int)} {T : List Int} {Os : List (List Int)} {vs vs' : VS} {S : Nat → List Nat} (h : HS u x tp fd M ch VL Ks T Os) (hw : Wf u) (hj : VL[j]? = some vs) (hT : HT u x S M ch) (hV : HV u x S ch VL) (hz : sz_ v = sz_ u) (hkl : ∀ a, kd_ v a = kd_ u a ∧ ln_ v a = ln_ u a) (hs : ∀ a, a ≠ rv_ u (x + 3) (j : Int) → Sm u v a) (hv' : HV1 v x S ch (rv_ u (x + 3) (j : Int)) vs') : HS v x tp fd M ch (VL.set j vs') Ks T Os ∧ MR x u v := by
  obtain ⟨⟨g1, g2⟩, hF, t1, f1, ⟨h0, d1⟩, -, hA, hX⟩ := h
  have hq := hV.1 j vs hj
  have hal := hq.1
  have hka : kd_ u (rv_ u (x + 3) (j : Int)) = 11 := by obtain ⟨-, -, ⟨lo, hi, ⟨q1, -⟩, -⟩, -⟩ := hq; exact q1
  generalize hA0 : rv_ u (x + 3) (j : Int) = A at *
  have hK : Kp_ x u v := ⟨by omega, fun a _ => hkl a, fun a ha hE hk => hs a (fun z => by rw [z] at hk; omega)⟩
  have hjl : j < VL.length := (List.getElem?_eq_some_iff.mp hj).1
  refine ⟨⟨⟨by omega, g2.1, fun a q1 q2 => by rw [(hkl a).1]; exact g2.2 a q1 q2⟩, by rw [List.length_set]; exact hF.same (hs _ (by omega)) (hkl _), t1.same (hs _ (by omega)) (hs _ (by omega)), f1.same (hs _ (by omega)) (hs _ (by omega)), ⟨h0, d1.same (hs _ (by omega)) (hs _ (by omega))⟩, ⟨S, hT.same hw hK (fun i hi => ?_) (fun i a hi ha hsc => hs a (fun z => ?_)), ?_, ?_⟩, hA.same (fun a q1 q2 => hs a (by omega)), hX.same hw hK (fun a ha hk => hs a (fun z => by rw [z] at hk; omega)) (fun a q1 q2 => hs a (by omega))⟩, by omega, fun a q1 q2 => hs a (by omega)⟩
  · have : tA x i = x + 4 ∨ tA x i = x + 5 ∨ tA x i = x + 33 := by unfold tA; split; (· exact Or.inl rfl); split; (· exact Or.inr (Or.inl rfl)); exact Or.inr (Or.inr rfl)
    have s := hs (tA x i) (by omega)
    exact ⟨s.2.2.2, s.2.2.1 0, s.2.2.1 1⟩
  · rw [z, hka] at hsc
    unfold Sc K5 at hsc
    omega
  · intro k ws hk
    have s3 := hs (x + 3) (by omega)
    rw [s3.2.2.2]
    by_cases e : k = j
    · subst e
      rw [List.getElem?_set_self hjl] at hk
      cases hk
      rw [hA0]; exact hv'
    · rw [List.getElem?_set_ne (Ne.symm e)] at hk
      have hkl2 : k < VL.length := (List.getElem?_eq_some_iff.mp hk).1
      refine (hV.1 k ws hk).same hw hK (hs _ (fun z => e (hV.2 k j hkl2 hjl (by rw [z, hA0])))) (Int.le_refl _) (fun _ _ z => ⟨z, fun y => y⟩)
  · intro a b ha hb e
    have s3 := hs (x + 3) (by omega)
    rw [s3.2.2.2, s3.2.2.2] at e
    rw [List.length_set] at ha hb
    exact hV.2 a b ha hb e
theorem c_hiterate (l : Launch) (u : Mem) {x : Nat} {i : Int} {tp fd : List Int} {M : Nat → List KV} {ch : Nat → Int} {VL : List VS} {Ks : List (List Int)} {T : List Int} {Os : List (List Int)} (h : HS u x tp fd M ch VL Ks T Os) (ri : rng i) : Mt_ l yX1_iterate cX1_iterate 2 (some .boolean) 1 0 0 [aR x, aI i] u (qI fun r v => MR x u v ∧ ((¬ (0 ≤ i ∧ i < VL.length) ∧ r = 0 ∧ HS v x tp fd M ch VL Ks T Os) ∨ (∃ vs, 0 ≤ i ∧ VL[i.toNat]? = some vs ∧ r = 1 ∧ HS v x tp fd M ch (VL.set i.toNat (vs.1, vs.2.1, vs.2.2.1, 1, ch vs.1, none, 0)) Ks T Os))) := by
  obtain ⟨kx, q0, q1, q2, q3, q4, q5, q6, q7, q8, kv, lv, hn⟩ := h.2.1
  refine Mt_of (by decide) (Nat.le_of_ble_eq_true rfl) (fun X ho hX hN hI => ?_)
  subst hX
  show Z X 0 [some (aR x), some (aI i)] [] u 0 0
  refine z_wf (fun hw => ?_)
  have no : ¬ (0 ≤ i ∧ i < VL.length) → Z X 12 [some (aR x), some (aI i)] [] u 0 0 := fun hn => by
    refine z_iconst ho dX1_iterate_12 ?_
    refine r_Z ho dX1_iterate_13 (Nat.le_of_ble_eq_true rfl) (Nat.le_of_ble_eq_true rfl) ?_ ?_
    · exact Or.inl rfl
    · exact ⟨MR.rf _ _, Or.inl ⟨hn, rfl, h⟩⟩
  refine z_iload_n ho dX1_iterate_0 rfl ?_
  refine z_if_lt (tgt := 12) ho dX1_iterate_1 (by decide) ri (fun c1 => ?_) (fun c1 => ?_)
  · exact no (by omega)
  · 
    refine z_iload_n ho dX1_iterate_4 rfl ?_
    refine z_aload_n ho dX1_iterate_5 rfl ?_
    refine gX1_22 ho dX1_iterate_6 kx ?_
    rw [q2]
    refine z_icmp_lt (tgt := 14) ho dX1_iterate_9 (by decide) ri (by unfold rng; omega) (fun c9 => ?_) (fun c9 => ?_)
    · have hvs : VL[i.toNat]? = some VL[i.toNat] := List.getElem?_eq_getElem (by omega)
      generalize VL[i.toNat] = vs at hvs
      obtain ⟨S, hT, hV, hv, hSl⟩ := h.view hvs
      have hv0 := hv
      have ei : (i.toNat : Int) = i := Int.toNat_of_nonneg (by omega)
      rw [ei] at hv
      obtain ⟨v1, v2, ⟨lo, hi, hVw, hR⟩, v4, v5, v6, v7, v8, v9, v10, v11, v12⟩ := hv
      have et : rv_ u (rv_ u (x + 3) i) 0 = tA x vs.1 := hVw.2.1
      have hkt := tA_kd hT v2
      have ltA : tA x vs.1 = x + 4 ∨ tA x vs.1 = x + 5 ∨ tA x vs.1 = x + 33 := by unfold tA; split; (· exact Or.inl rfl); split; (· exact Or.inr (Or.inl rfl)); exact Or.inr (Or.inr rfl)
      have hch := (hT.2.1 vs.1 v2).2.2.1
      refine z_aload_n ho dX1_iterate_14 rfl ?_
      refine gX1_18 ho dX1_iterate_15 kx ?_
      rw [q1]
      refine z_iload_n ho dX1_iterate_18 rfl ?_
      refine z_aald ho dX1_iterate_19 (by decide) (show kd_ u (x + 3) = 106 from kv) (by omega) (by omega) ?_
      refine kX1_185 ho hN (c_iterate _ _ hVw.1 (by rw [et]; unfold isT_; omega)) dX1_iterate_20 hVw.1 (Nat.le_of_ble_eq_true rfl) (Nat.le_of_ble_eq_true rfl) (Nat.le_of_ble_eq_true rfl) (Nat.le_of_ble_eq_true rfl) (fun u20 h20 => ?_)
      refine z_iconst ho dX1_iterate_23 ?_
      refine r_Z ho dX1_iterate_24 (Nat.le_of_ble_eq_true rfl) (Nat.le_of_ble_eq_true rfl) ?_ ?_
      · exact Or.inr rfl
      · have hq := h20
        rw [et, hch] at hq
        have hka := hVw.1
        generalize hA : rv_ u (x + 3) i = A at *
        have hs : ∀ a, a ≠ A → Sm u u20 a := fun a ha => by rw [hq]; exact (((Sm.wI ha).tr (Sm.wI ha)).tr (Sm.wR ha)).tr (Sm.wI ha)
        have hkl : ∀ a, kd_ u20 a = kd_ u a ∧ ln_ u20 a = ln_ u a := fun a => by rw [hq]; exact ⟨rfl, rfl⟩
        have hr : ∀ k, k ≠ 6 → rv_ u20 A k = rv_ u A k := fun k hk => by rw [hq, rv_wI, rv_wR, if_neg (fun z => hk z.2)]; rfl
        have hi3 : iv_ u20 A 3 = iv_ u A 3 := by rw [hq, iv_wI, if_neg (by omega), iv_wR, iv_wI, if_neg (by omega), iv_wI, if_neg (by omega)]
        have hz : sz_ u20 = sz_ u := by rw [hq]; rfl
        have hK : Kp_ x u u20 := ⟨by omega, fun a _ => hkl a, fun a ha hE hk => hs a (fun z => by rw [z] at hk; omega)⟩
        have ko : ∀ {k : Nat} {o : Option (List Int)}, KyO u k o → (k = 0 ∨ (x + 64 ≤ k ∧ kd_ u k = 2)) → KyO u20 k o := fun {k o} hko hx => by
          rcases hko with z | ⟨z, e⟩
          · exact Or.inl z
          · obtain ⟨y1, y2⟩ := hx.resolve_left (z.lt hw).2.2
            have := hK.ky hw z y2 y1
            exact Or.inr ⟨this.1, by rw [this.2]; exact e⟩
        have hrc := (h.1.2.1 vs.1 v2).2
        have hv' : HV1 u20 x S ch A (vs.1, vs.2.1, vs.2.2.1, 1, ch vs.1, none, 0) := by
          refine ⟨v1, v2, ⟨lo, hi, ⟨by rw [(hkl _).1]; exact hVw.1, by rw [hr 0 (by decide)]; exact hVw.2.1, by rw [hr 1 (by decide)]; exact ko hVw.2.2.1 v4, by rw [hr 2 (by decide)]; exact ko hVw.2.2.2 v5⟩, hR⟩, by rw [hr 1 (by decide), (hkl _).1]; exact v4, by rw [hr 2 (by decide), (hkl _).1]; exact v5, by rw [hi3]; exact v6, ⟨?_, Or.inr rfl⟩, ⟨?_, hrc⟩, Or.inl ⟨?_, rfl⟩, ⟨?_, Or.inl rfl⟩, fun z => absurd (show (0 : Int) = 1 from z) (by decide), fun _ => Int.le_refl _⟩
          · rw [hq, iv_wI, if_neg (by omega), iv_wR, iv_wI, if_neg (by omega), iv_wI, if_pos ⟨rfl, rfl⟩]
          · rw [hq, iv_wI, if_neg (by omega), iv_wR, iv_wI, if_pos ⟨rfl, rfl⟩]
          · rw [hq, rv_wI, rv_wR, if_pos ⟨rfl, rfl⟩]
          · rw [hq, iv_wI, if_pos ⟨rfl, rfl⟩]
        obtain ⟨p1, p2⟩ := h.vset hw hvs hT hV hz hkl (by rw [ei, hA]; exact hs) (by rw [ei, hA]; exact hv')
        exact ⟨p2, Or.inr ⟨vs, by omega, hvs, rfl, p1⟩⟩
    · exact no (by omega)
theorem c_automaton (l : Launch) (u : Mem) {x : Nat} {w : Int} {tp fd : List Int} {M : Nat → List KV} {ch : Nat → Int} {VL : List VS} {Ks : List (List Int)} {T : List Int} {Os : List (List Int)} (h : HS u x tp fd M ch VL Ks T Os) (rw_ : rng w) : Mt_ l yX1_automaton cX1_automaton 4 (some .int) 2 0 0 [aR x, aI w] u (qI fun r v => MR x u v ∧ ((¬ (0 ≤ w ∧ w ≤ 4) ∧ r = -1 ∧ HS v x tp fd M ch VL Ks T Os) ∨ (0 ≤ w ∧ w < 3 ∧ HS v x tp fd M ch VL Ks T Os ∧ ∃ Rs, Cls Ks Rs ∧ r = nums w Rs) ∨ ((w = 3 ∨ w = 4) ∧ HS v x [] fd M ch VL Ks T Os ∧ ((Ks = [] ∧ r = if w = 3 then -1 else 0) ∨ (Ks ≠ [] ∧ ∃ i, Far Ks tp i ∧ r = if w = 3 then (i : Int) else @ite Int (tp ∈ Ks) (Classical.propDecidable _) 1 0))))) := by
  obtain ⟨kx, q0, q1, q2, q3, q4, q5, q6, q7, q8, kv, lv, hn⟩ := h.2.1
  obtain ⟨hAX, hAZ, hKl⟩ := h.2.2.2.2.2.2.1
  refine Mt_of (by decide) (Nat.le_of_ble_eq_true rfl) (fun X ho hX hN hI => ?_)
  subst hX
  show Z X 0 [some (aR x), some (aI w), none, none] [] u 0 0
  refine z_wf (fun hw => ?_)
  have no : ¬ (0 ≤ w ∧ w ≤ 4) → Z X 9 [some (aR x), some (aI w), none, none] [] u 0 0 := fun hn => by
    refine z_iconst ho dX1_automaton_9 ?_
    refine r_I ho dX1_automaton_10 (Nat.le_of_ble_eq_true rfl) (Nat.le_of_ble_eq_true rfl) ?_
    exact ⟨MR.rf _ _, Or.inl ⟨hn, rfl, h⟩⟩
  refine z_iload_n ho dX1_automaton_0 rfl ?_
  refine z_if_lt (tgt := 9) ho dX1_automaton_1 (by decide) rw_ (fun c1 => ?_) (fun c1 => ?_)
  · exact no (by omega)
  · 
    refine z_iload_n ho dX1_automaton_4 rfl ?_
    refine z_iconst ho dX1_automaton_5 ?_
    refine z_icmp_le (tgt := 11) ho dX1_automaton_6 (by decide) rw_ (by unfold rng; omega) (fun c6 => ?_) (fun c6 => ?_)
    · 
      refine z_iload_n ho dX1_automaton_11 rfl ?_
      refine z_iconst ho dX1_automaton_12 ?_
      refine z_icmp_ge (tgt := 25) ho dX1_automaton_13 (by decide) rw_ (by unfold rng; omega) (fun c13 => ?_) (fun c13 => ?_)
      · 
        refine z_aload_n ho dX1_automaton_25 rfl ?_
        refine kX1_95 ho hN (c_use _ _ h) dX1_automaton_26 kx (by omega) (Nat.le_of_ble_eq_true rfl) (Nat.le_of_ble_eq_true rfl) (Nat.le_of_ble_eq_true rfl) (fun x26 u26 h26 => ?_)
        obtain ⟨rfl, u2, u3, u4, u5, u6⟩ := h26
        have M1 : MR x u u26 := ⟨by omega, fun a q1 q2 => u6 a (by omega) (by omega) (by omega)⟩
        obtain ⟨hAX', hAZ', -⟩ := u3.2.2.2.2.2.2.1
        have F1 := u3.2.1
        have e6 := F1.2.2.2.2.2.2.2.1
        have hst : rng (iv_ u26 (x + 15) 7) := by
          rcases hAZ' with ⟨-, z, -⟩ | ⟨-, n, pf, St, KL, s0, z1, z2, z3, -⟩
          · rw [z]; unfold rng; omega
          · obtain ⟨-, -, -, -, ⟨y1, -⟩, y2⟩ := z1
            have := (y2.1 s0 z3).1
            rw [z2]; unfold rng; omega
        refine z_astore_n ho dX1_automaton_29 (Nat.le_of_ble_eq_true rfl) rfl ?_
        refine z_aload_n ho dX1_automaton_30 rfl ?_
        refine gX1_46 ho dX1_automaton_31 F1.1 ?_
        rw [e6]
        refine gX1_233 ho dX1_automaton_34 hAX'.1.1 ?_
        refine z_iconst ho dX1_automaton_37 ?_
        refine z_icmp_ne (tgt := 52) ho dX1_automaton_38 (by decide) hst (by unfold rng; omega) (fun c38 => ?_) (fun c38 => ?_)
        · have hKn : Ks ≠ [] := fun z => by
            rcases hAZ' with ⟨-, y, -⟩ | ⟨y, -⟩
            · exact c38 y
            · exact y z
          have hln := u2.1.Tx.1
          rw [u2.2.2] at hln
          have en : iv_ u26 (x + 28) 1 = tp.length := by rw [← u2.1.tx_len, u2.2.2]
          refine z_aload_n ho dX1_automaton_52 rfl ?_
          refine gX1_46 ho dX1_automaton_53 F1.1 ?_
          rw [e6]
          refine z_aload_n ho dX1_automaton_56 rfl ?_
          refine kX1_236 ho hN (c_goes _ _ hAX' hAZ' hKn u2.1) dX1_automaton_57 hAX'.1.1 (by omega) (Nat.le_of_ble_eq_true rfl) (Nat.le_of_ble_eq_true rfl) (Nat.le_of_ble_eq_true rfl) (fun x57 u57 h57 => ?_)
          obtain ⟨rfl, j, hfar, hr⟩ := h57
          refine z_istore_n ho dX1_automaton_60 (Nat.le_of_ble_eq_true rfl) rfl ?_
          refine z_iload_n ho dX1_automaton_61 rfl ?_
          refine z_iconst ho dX1_automaton_62 ?_
          refine z_icmp_ne (tgt := 78) ho dX1_automaton_63 (by decide) rw_ (by unfold rng; omega) (fun c63 => ?_) (fun c63 => ?_)
          · rw [u2.2.2] at hfar hr
            have hjl := hfar.1
            have hw3 : w = 3 := by omega
            have mx : tp ∈ Ks → j = tp.length := fun z => by
              rcases Nat.lt_or_ge j tp.length with y | y
              · exact absurd ⟨tp, z, List.take_prefix _ _⟩ (hfar.2.2 y)
              · omega
            refine z_iload_n ho dX1_automaton_78 rfl ?_
            refine z_if_ge (tgt := 89) ho dX1_automaton_79 (by decide) (by rcases hr with ⟨-, z⟩ | ⟨-, z⟩ <;> rw [z] <;> unfold rng <;> omega) (fun c79 => ?_) (fun c79 => ?_)
            · 
              refine z_iload_n ho dX1_automaton_89 rfl ?_
              refine r_I ho dX1_automaton_90 (Nat.le_of_ble_eq_true rfl) (Nat.le_of_ble_eq_true rfl) ?_
              refine ⟨M1, Or.inr (Or.inr ⟨Or.inl hw3, u3, Or.inr ⟨hKn, j, hfar, ?_⟩⟩)⟩
              rw [if_pos hw3]
              rcases hr with ⟨-, z⟩ | ⟨-, z⟩
              · omega
              · exact z
            · 
              refine z_aload_n ho dX1_automaton_82 rfl ?_
              refine gX1_84 ho dX1_automaton_83 u2.1.1 ?_
              rw [en]
              refine z_goto (tgt := 90) ho dX1_automaton_86 (by decide) ?_
              refine r_I ho dX1_automaton_90 (Nat.le_of_ble_eq_true rfl) (Nat.le_of_ble_eq_true rfl) ?_
              refine ⟨M1, Or.inr (Or.inr ⟨Or.inl hw3, u3, Or.inr ⟨hKn, j, hfar, ?_⟩⟩)⟩
              rw [if_pos hw3]
              rcases hr with ⟨y, z⟩ | ⟨-, z⟩
              · rw [mx y]
              · omega
          · rw [u2.2.2] at hfar hr
            have hjl := hfar.1
            refine z_iload_n ho dX1_automaton_66 rfl ?_
            refine z_if_ge (tgt := 74) ho dX1_automaton_67 (by decide) (by rcases hr with ⟨-, z⟩ | ⟨-, z⟩ <;> rw [z] <;> unfold rng <;> omega) (fun c67 => ?_) (fun c67 => ?_)
            · 
              refine z_iconst ho dX1_automaton_74 ?_
              refine z_goto (tgt := 90) ho dX1_automaton_75 (by decide) ?_
              refine r_I ho dX1_automaton_90 (Nat.le_of_ble_eq_true rfl) (Nat.le_of_ble_eq_true rfl) ?_
              refine ⟨M1, Or.inr (Or.inr ⟨Or.inr c63, u3, Or.inr ⟨hKn, j, hfar, ?_⟩⟩)⟩
              rw [if_neg (by omega)]
              rcases hr with ⟨-, z⟩ | ⟨y, z⟩
              · omega
              · rw [if_neg y]
            · 
              refine z_iconst ho dX1_automaton_70 ?_
              refine z_goto (tgt := 90) ho dX1_automaton_71 (by decide) ?_
              refine r_I ho dX1_automaton_90 (Nat.le_of_ble_eq_true rfl) (Nat.le_of_ble_eq_true rfl) ?_
              refine ⟨M1, Or.inr (Or.inr ⟨Or.inr c63, u3, Or.inr ⟨hKn, j, hfar, ?_⟩⟩)⟩
              rw [if_neg (by omega)]
              rcases hr with ⟨y, z⟩ | ⟨-, z⟩
              · rw [if_pos y]
              · omega
        · have hK0 : Ks = [] := by
            rcases hAZ' with ⟨y, -⟩ | ⟨-, n, pf, St, KL, s0, z1, z2, -⟩
            · exact y
            · omega
          refine z_iload_n ho dX1_automaton_41 rfl ?_
          refine z_iconst ho dX1_automaton_42 ?_
          refine z_icmp_ne (tgt := 50) ho dX1_automaton_43 (by decide) rw_ (by unfold rng; omega) (fun c43 => ?_) (fun c43 => ?_)
          · 
            refine z_iconst ho dX1_automaton_50 ?_
            refine r_I ho dX1_automaton_51 (Nat.le_of_ble_eq_true rfl) (Nat.le_of_ble_eq_true rfl) ?_
            exact ⟨M1, Or.inr (Or.inr ⟨by omega, u3, Or.inl ⟨hK0, by rw [if_neg c43]⟩⟩)⟩
          · 
            refine z_iconst ho dX1_automaton_46 ?_
            refine z_goto (tgt := 51) ho dX1_automaton_47 (by decide) ?_
            refine r_I ho dX1_automaton_51 (Nat.le_of_ble_eq_true rfl) (Nat.le_of_ble_eq_true rfl) ?_
            exact ⟨M1, Or.inr (Or.inr ⟨by omega, u3, Or.inl ⟨hK0, by rw [if_pos c43]⟩⟩)⟩
      · 
        refine z_aload_n ho dX1_automaton_16 rfl ?_
        refine gX1_46 ho dX1_automaton_17 kx ?_
        rw [q6]
        refine z_iload_n ho dX1_automaton_20 rfl ?_
        refine kX1_231 ho hN (c_count _ _ hAX hAZ (by omega) (by omega)) dX1_automaton_21 hAX.1.1 (by omega) (Nat.le_of_ble_eq_true rfl) (Nat.le_of_ble_eq_true rfl) (Nat.le_of_ble_eq_true rfl) (fun x21 u21 h21 => ?_)
        obtain ⟨rfl, Rs, r1, r2⟩ := h21
        refine r_I ho dX1_automaton_24 (Nat.le_of_ble_eq_true rfl) (Nat.le_of_ble_eq_true rfl) ?_
        exact ⟨MR.rf _ _, Or.inr (Or.inl ⟨by omega, by omega, h, Rs, r1, r2⟩)⟩
    · exact no (by omega)
