set_option maxRecDepth 100000
/-! ===== KeyHall: the text ===== -/
/-- the model's cells stay -/
def MR (x : Nat) (u v : Mem) : Prop := sz_ u ≤ sz_ v ∧ ∀ a, x + 34 ≤ a → a < x + 64 → Sm u v a
theorem MR.rf (x : Nat) (u : Mem) : MR x u u := ⟨Nat.le_refl _, fun a _ _ => Sm.rf u a⟩
theorem MR.tr {x : Nat} {u v w : Mem} (h : MR x u v) (h' : MR x v w) : MR x u w := ⟨Nat.le_trans h.1 h'.1, fun a q1 q2 => (h.2 a q1 q2).tr (h'.2 a q1 q2)⟩
theorem HS.part {u v : Mem} {x : Nat} {tp fd : List Int} {M : Nat → List KV} {ch : Nat → Int} {VL : List VS} {Ks Ks' : List (List Int)} {T T' : List Int} {Os Os' : List (List Int)} (h : HS u x tp fd M ch VL Ks T Os) (hw : Wf u) (hz : sz_ u ≤ sz_ v) (hkl : ∀ a, a < sz_ u → kd_ v a = kd_ u a ∧ ln_ v a = ln_ u a) (hs : ∀ a, a < sz_ u → ¬ (x + 15 ≤ a ∧ a < x + 28) → Sm u v a) (hA' : HA v x Ks') (hX' : HX v x T' Os') : HS v x tp fd M ch VL Ks' T' Os' := by
  obtain ⟨⟨g1, g2⟩, hF, t1, f1, ⟨h0, d1⟩, ⟨S, hT, hV⟩, hA, hX⟩ := h
  have kk : ∀ a, x + 15 ≤ a ∧ a < x + 28 → kd_ u a = 9 ∨ kd_ u a = 10 ∨ kd_ u a = 100 ∨ kd_ u a = 101 ∨ kd_ u a = 102 ∨ kd_ u a = 107 := fun a ha => by
    obtain ⟨⟨⟨a0, -⟩, ⟨a1, -⟩, ⟨a2, -⟩, ⟨a3, -⟩, ⟨a4, -⟩, ⟨a5, -⟩, ⟨a6, -⟩, -⟩, -⟩ := hA
    obtain ⟨⟨⟨⟨b0, -⟩, ⟨b1, -⟩, ⟨b2, -⟩, ⟨b3, -⟩, ⟨b4, -⟩, ⟨b5, -⟩, -⟩, -⟩, -⟩ := hX
    have : a = x + 15 ∨ a = x + 16 ∨ a = x + 17 ∨ a = x + 18 ∨ a = x + 19 ∨ a = x + 20 ∨ a = x + 21 ∨ a = x + 22 ∨ a = x + 23 ∨ a = x + 24 ∨ a = x + 25 ∨ a = x + 26 ∨ a = x + 27 := by omega
    rcases this with z | z | z | z | z | z | z | z | z | z | z | z | z <;> (rw [z]; omega)
  have hK : Kp_ x u v := ⟨hz, hkl, fun a ha hE _ => hs a ha (by omega)⟩
  have sx : ∀ a, a < x + 64 → ¬ (x + 15 ≤ a ∧ a < x + 28) → Sm u v a := fun a ha hn => hs a (by omega) hn
  refine ⟨⟨by omega, g2.1, fun a q1 q2 => by rw [(hkl a (by omega)).1]; exact g2.2 a q1 q2⟩, hF.same (sx x (by omega) (by omega)) ⟨(hkl _ (by omega)).1, (hkl _ (by omega)).2⟩, t1.same (sx _ (by omega) (by omega)) (sx _ (by omega) (by omega)), f1.same (sx _ (by omega) (by omega)) (sx _ (by omega) (by omega)), ⟨h0, d1.same (sx _ (by omega) (by omega)) (sx _ (by omega) (by omega))⟩, ⟨S, hT.same hw hK (fun i hi => ?_) (fun i a hi ha hsc => hs a ha (fun z => ?_)), hV.same hw hK (sx _ (by omega) (by omega)) (fun a ha hk => hs a ha (fun z => by have := kk a z; omega)) (fun _ => Int.le_refl _) (fun vs _ a _ _ z => ⟨z, fun y => y⟩)⟩, hA', hX'⟩
  · have : tA x i = x + 4 ∨ tA x i = x + 5 ∨ tA x i = x + 33 := by unfold tA; split; (· exact Or.inl rfl); split; (· exact Or.inr (Or.inl rfl)); exact Or.inr (Or.inr rfl)
    have s := sx (tA x i) (by omega) (by omega)
    exact ⟨s.2.2.2, s.2.2.1 0, s.2.2.1 1⟩
  · have := kk a z
    unfold Sc K5 hG at hsc
    omega
/-- only the scroll changes -/
theorem HS.scr {u v : Mem} {x : Nat} {tp fd : List Int} {M : Nat → List KV} {ch : Nat → Int} {VL : List VS} {Ks : List (List Int)} {T T' : List Int} {Os Os' : List (List Int)} (h : HS u x tp fd M ch VL Ks T Os) (hw : Wf u) (hF : Fr (sQ (x + 22) (x + 23) (x + 24) (x + 25) (x + 26) (x + 27)) u v) (hX' : HX v x T' Os') : HS v x tp fd M ch VL Ks T' Os' ∧ MR x u v := by
  have g1 := h.1.1
  have hs : ∀ a, a < sz_ u → ¬ (x + 22 ≤ a ∧ a < x + 28) → Sm u v a := fun a ha hn => (hF.2 a ha).2.2 (fun z => by unfold sQ at z; omega)
  refine ⟨h.part hw hF.1 (fun a ha => ⟨(hF.2 a ha).1, (hF.2 a ha).2.1⟩) (fun a ha hn => hs a ha (by omega)) (h.2.2.2.2.2.2.1.same (fun a q1 q2 => hs a (by omega) (by omega))) hX', hF.1, fun a q1 q2 => hs a (by omega) (by omega)⟩
theorem c_undo (l : Launch) (u : Mem) {x : Nat} {tp fd : List Int} {M : Nat → List KV} {ch : Nat → Int} {VL : List VS} {Ks : List (List Int)} {T : List Int} {Os : List (List Int)} (h : HS u x tp fd M ch VL Ks T Os) : Mt_ l yX1_undo cX1_undo 1 (some .int) 2 0 0 [aR x] u (qI fun r v => MR x u v ∧ ((Os = [] ∧ r = -1 ∧ HS v x tp fd M ch VL Ks T Os) ∨ (∃ Ps R, Os = Ps ++ [R] ∧ r = R.length ∧ HS v x tp fd M ch VL Ks R Ps))) := by
  have hF := h.2.1
  have hX := h.2.2.2.2.2.2.2
  refine Mt_of (by decide) (Nat.le_of_ble_eq_true rfl) (fun X ho hX hN hI => ?_)
  subst hX
  show Z X 0 [some (aR x)] [] u 0 0
  refine z_wf (fun hw => ?_)
  refine z_aload_n ho dX1_undo_0 rfl ?_
  refine gX1_53 ho dX1_undo_1 hF.1 ?_
  rw [hF.2.2.2.2.2.2.2.2.1]
  refine kX1_252 ho hN (c_sundo _ _ hX.1) dX1_undo_4 hX.1.1.1.1 (Nat.le_of_ble_eq_true rfl) (Nat.le_of_ble_eq_true rfl) (Nat.le_of_ble_eq_true rfl) (Nat.le_of_ble_eq_true rfl) (fun x4 u4 h4 => ?_)
  refine r_I ho dX1_undo_7 (Nat.le_of_ble_eq_true rfl) (Nat.le_of_ble_eq_true rfl) ?_
  rcases h4 with ⟨z1, z2, z3⟩ | ⟨Ps, R, z1, z2, z3, z4, z5, z6⟩
  · rw [z3]
    exact ⟨MR.rf _ _, Or.inl ⟨z1, z2, h⟩⟩
  · obtain ⟨q1, q2⟩ := h.scr hw z6 (T' := R) (Os' := Ps) ⟨z3, Or.inl z4⟩
    exact ⟨q2, Or.inr ⟨Ps, R, z1, z2, q1⟩⟩
theorem c_letter (l : Launch) (u : Mem) {x : Nat} {i : Int} {tp fd : List Int} {M : Nat → List KV} {ch : Nat → Int} {VL : List VS} {Ks : List (List Int)} {T : List Int} {Os : List (List Int)} (h : HS u x tp fd M ch VL Ks T Os) (hi : rng i) : Mt_ l yX1_letter cX1_letter 2 (some .int) 2 0 0 [aR x, aI i] u (qI fun r v => u = v ∧ r = if i = -1 then (T.length : Int) else if i = -2 then sumT T else if 0 ≤ i ∧ i < T.length then _root_.Jvm.Pilot.CKeyHallLaw_law_r3948_e91dda.ch T i else -1) := by
  have hF := h.2.1
  have hX := h.2.2.2.2.2.2.2.1
  have kx := hF.1
  have e7 := hF.2.2.2.2.2.2.2.2.1
  have ks := hX.1.1.1
  have hT := hX.2.2.1
  refine Mt_of (by decide) (Nat.le_of_ble_eq_true rfl) (fun X ho hX hN hI => ?_)
  subst hX
  show Z X 0 [some (aR x), some (aI i)] [] u 0 0
  refine z_wf (fun hw => ?_)
  obtain ⟨hr1, hr2⟩ := hX.2.1.len hw
  refine z_iload_n ho dX1_letter_0 rfl ?_
  refine z_iconst ho dX1_letter_1 ?_
  refine z_icmp_ne (tgt := 13) ho dX1_letter_2 (by decide) hi (by unfold rng; omega) (fun c2 => ?_) (fun c2 => ?_)
  · 
    refine z_iload_n ho dX1_letter_13 rfl ?_
    refine z_bipush ho dX1_letter_14 rfl ?_
    refine z_icmp_ne (tgt := 27) ho dX1_letter_16 (by decide) hi (by unfold rng; omega) (fun c16 => ?_) (fun c16 => ?_)
    · have no : ¬ (0 ≤ i ∧ i < T.length) → Z X 42 [some (aR x), some (aI i)] [] u 0 0 := fun hn => by
        refine z_iconst ho dX1_letter_42 ?_
        refine z_goto (tgt := 57) ho dX1_letter_43 (by decide) ?_
        refine r_I ho dX1_letter_57 (Nat.le_of_ble_eq_true rfl) (Nat.le_of_ble_eq_true rfl) ?_
        exact ⟨rfl, by rw [if_neg c2, if_neg c16, if_neg hn]⟩
      refine z_iload_n ho dX1_letter_27 rfl ?_
      refine z_if_lt (tgt := 42) ho dX1_letter_28 (by decide) hi (fun c28 => ?_) (fun c28 => ?_)
      · exact no (by omega)
      · 
        refine z_iload_n ho dX1_letter_31 rfl ?_
        refine z_aload_n ho dX1_letter_32 rfl ?_
        refine gX1_53 ho dX1_letter_33 kx ?_
        rw [e7]
        refine kX1_239 ho hN (c_slen _ _ ks hX.2.1) dX1_letter_36 ks (Nat.le_of_ble_eq_true rfl) (Nat.le_of_ble_eq_true rfl) (Nat.le_of_ble_eq_true rfl) (Nat.le_of_ble_eq_true rfl) (fun x36 u36 h36 => ?_)
        obtain ⟨rfl, rfl⟩ := h36
        refine z_icmp_lt (tgt := 46) ho dX1_letter_39 (by decide) hi (by unfold rng; omega) (fun c39 => ?_) (fun c39 => ?_)
        · have hro : rv_ u (x + 22) 0 ≠ 0 := fun z => by have := hr1.mp z; rw [this] at c39; simp at c39; omega
          obtain ⟨kr, lr, hRT⟩ := hr2 hro
          refine z_aload_n ho dX1_letter_46 rfl ?_
          refine gX1_53 ho dX1_letter_47 kx ?_
          rw [e7]
          refine gX1_258 ho dX1_letter_50 ks ?_
          refine z_iload_n ho dX1_letter_53 rfl ?_
          refine kX1_262 ho hN (c_ropeat _ _ hRT (by omega) (by omega) (by omega)) dX1_letter_54 kr (Nat.le_of_ble_eq_true rfl) (Nat.le_of_ble_eq_true rfl) (Nat.le_of_ble_eq_true rfl) (Nat.le_of_ble_eq_true rfl) (fun x54 u54 h54 => ?_)
          obtain ⟨rfl, rfl⟩ := h54
          refine r_I ho dX1_letter_57 (Nat.le_of_ble_eq_true rfl) (Nat.le_of_ble_eq_true rfl) ?_
          exact ⟨rfl, by rw [if_neg c2, if_neg c16, if_pos ⟨by omega, c39⟩]⟩
        · exact no (by omega)
    · 
      refine z_aload_n ho dX1_letter_19 rfl ?_
      refine gX1_53 ho dX1_letter_20 kx ?_
      rw [e7]
      refine kX1_255 ho hN (c_ssum _ _ ks hX.2.1 hT) dX1_letter_23 ks (Nat.le_of_ble_eq_true rfl) (Nat.le_of_ble_eq_true rfl) (Nat.le_of_ble_eq_true rfl) (Nat.le_of_ble_eq_true rfl) (fun x23 u23 h23 => ?_)
      obtain ⟨rfl, rfl⟩ := h23
      refine r_I ho dX1_letter_26 (Nat.le_of_ble_eq_true rfl) (Nat.le_of_ble_eq_true rfl) ?_
      exact ⟨rfl, by rw [if_neg c2, if_pos c16]⟩
  · 
    refine z_aload_n ho dX1_letter_5 rfl ?_
    refine gX1_53 ho dX1_letter_6 kx ?_
    rw [e7]
    refine kX1_239 ho hN (c_slen _ _ ks hX.2.1) dX1_letter_9 ks (Nat.le_of_ble_eq_true rfl) (Nat.le_of_ble_eq_true rfl) (Nat.le_of_ble_eq_true rfl) (Nat.le_of_ble_eq_true rfl) (fun x9 u9 h9 => ?_)
    obtain ⟨rfl, rfl⟩ := h9
    refine r_I ho dX1_letter_12 (Nat.le_of_ble_eq_true rfl) (Nat.le_of_ble_eq_true rfl) ?_
    exact ⟨rfl, by rw [if_pos c2]⟩
/-- the sorted scroll -/
theorem HS.srt {u v : Mem} {x : Nat} {tp fd : List Int} {M : Nat → List KV} {ch : Nat → Int} {VL : List VS} {Ks : List (List Int)} {T : List Int} {Os : List (List Int)} (h : HS u x tp fd M ch VL Ks T Os) (hw : Wf u) (hS : SAr T (iv_ v (x + 24)) (iv_ v (x + 25)) (iv_ v (x + 27))) (hI : Iw u v (x + 22) (x + 24) (x + 25) (x + 26) (x + 27)) (h7 : iv_ v (x + 22) 7 = 1) : HS v x tp fd M ch VL Ks T Os ∧ MR x u v := by
  have hX := h.2.2.2.2.2.2.2.1
  obtain ⟨q1, q2, q3, q4, q5, q6, q7⟩ := hX
  refine h.scr hw (hI.fr (a1 := x + 23)) ⟨⟨q1.iw hI, by rw [hI.2.2.1]; exact RO.iw q1 hI q2, q3, fun j O hj => by rw [hI.2.2.1]; exact RO.iw q1 hI (q4 j O hj), by rw [hI.2.2.2.2 2 (by decide)]; exact q5, q6, q7⟩, Or.inr ⟨h7, hS⟩⟩
theorem c_suffix (l : Launch) (u : Mem) {x : Nat} {k w : Int} {tp fd : List Int} {M : Nat → List KV} {ch : Nat → Int} {VL : List VS} {Ks : List (List Int)} {T : List Int} {Os : List (List Int)} (h : HS u x tp fd M ch VL Ks T Os) (hk : rng k) (hwr : rng w) : Mt_ l yX1_suffix cX1_suffix 3 (some .int) 4 0 0 [aR x, aI k, aI w] u (qI fun r v => HS v x tp fd M ch VL Ks T Os ∧ MR x u v ∧ ((¬ (0 ≤ k ∧ k < T.length ∧ 0 ≤ w ∧ w ≤ 1) ∧ r = -1) ∨ (0 ≤ k ∧ k < T.length ∧ 0 ≤ w ∧ w ≤ 1 ∧ ∃ sx rk cm, SAr T sx rk cm ∧ r = if w = 0 then sx k else cm k))) := by
  have hF := h.2.1
  have hX := h.2.2.2.2.2.2.2
  have kx := hF.1
  have e7 := hF.2.2.2.2.2.2.2.2.1
  have ks := hX.1.1.1.1
  have hT := hX.1.2.2.1
  refine Mt_of (by decide) (Nat.le_of_ble_eq_true rfl) (fun X ho hX hN hI => ?_)
  subst hX
  show Z X 0 [some (aR x), some (aI k), some (aI w)] [] u 0 0
  refine z_wf (fun hw => ?_)
  have no : ¬ (0 ≤ k ∧ k < T.length ∧ 0 ≤ w ∧ w ≤ 1) → Z X 24 [some (aR x), some (aI k), some (aI w)] [] u 0 0 := fun hn => by
    refine z_iconst ho dX1_suffix_24 ?_
    refine r_I ho dX1_suffix_25 (Nat.le_of_ble_eq_true rfl) (Nat.le_of_ble_eq_true rfl) ?_
    exact ⟨h, MR.rf _ _, Or.inl ⟨hn, rfl⟩⟩
  refine z_iload_n ho dX1_suffix_0 rfl ?_
  refine z_if_lt (tgt := 24) ho dX1_suffix_1 (by decide) hk (fun c1 => ?_) (fun c1 => ?_)
  · exact no (by omega)
  · 
    refine z_iload_n ho dX1_suffix_4 rfl ?_
    refine z_aload_n ho dX1_suffix_5 rfl ?_
    refine gX1_53 ho dX1_suffix_6 kx ?_
    rw [e7]
    refine kX1_239 ho hN (c_slen _ _ ks hX.1.2.1) dX1_suffix_9 ks (by omega) (Nat.le_of_ble_eq_true rfl) (Nat.le_of_ble_eq_true rfl) (Nat.le_of_ble_eq_true rfl) (fun x9 u9 h9 => ?_)
    obtain ⟨rfl, rfl⟩ := h9
    refine z_icmp_ge (tgt := 24) ho dX1_suffix_12 (by decide) hk (by unfold rng; omega) (fun c12 => ?_) (fun c12 => ?_)
    · exact no (by omega)
    · 
      refine z_iload_n ho dX1_suffix_15 rfl ?_
      refine z_if_lt (tgt := 24) ho dX1_suffix_16 (by decide) hwr (fun c16 => ?_) (fun c16 => ?_)
      · exact no (by omega)
      · 
        refine z_iload_n ho dX1_suffix_19 rfl ?_
        refine z_iconst ho dX1_suffix_20 ?_
        refine z_icmp_le (tgt := 26) ho dX1_suffix_21 (by decide) hwr (by unfold rng; omega) (fun c21 => ?_) (fun c21 => ?_)
        · 
          refine z_aload_n ho dX1_suffix_26 rfl ?_
          refine gX1_53 ho dX1_suffix_27 kx ?_
          rw [e7]
          refine kX1_268 ho hN (c_sort _ _ hX.1.1 hX.1.2.1 hT hX.2) dX1_suffix_30 ks (by omega) (Nat.le_of_ble_eq_true rfl) (Nat.le_of_ble_eq_true rfl) (Nat.le_of_ble_eq_true rfl) (fun u30 h30 => ?_)
          obtain ⟨s1, s2, s3⟩ := h30
          refine z_iload_n ho dX1_suffix_33 rfl ?_
          refine z_if_ne (tgt := 49) ho dX1_suffix_34 (by decide) hwr (fun c34 => ?_) (fun c34 => ?_)
          · obtain ⟨q1, q2⟩ := h.srt hw s1 s2 s3
            have X2 := q1.2.2.2.2.2.2.2.1.1
            refine z_aload_n ho dX1_suffix_49 rfl ?_
            refine gX1_53 ho dX1_suffix_50 q1.2.1.1 ?_
            rw [q1.2.1.2.2.2.2.2.2.2.2.1]
            refine gX1_275 ho dX1_suffix_53 X2.1.1 ?_
            rw [X2.1.2.2.2.2.2]
            refine z_iload_n ho dX1_suffix_56 rfl ?_
            refine z_iald ho dX1_suffix_57 X2.2.2.2.2.2.1.1 (by omega) (by rw [X2.2.2.2.2.2.1.2]; omega) ?_
            refine r_I ho dX1_suffix_58 (Nat.le_of_ble_eq_true rfl) (Nat.le_of_ble_eq_true rfl) ?_
            exact ⟨q1, q2, Or.inr ⟨by omega, by omega, by omega, by omega, _, _, _, s1, by rw [if_neg c34]⟩⟩
          · obtain ⟨q1, q2⟩ := h.srt hw s1 s2 s3
            have X2 := q1.2.2.2.2.2.2.2.1.1
            refine z_aload_n ho dX1_suffix_37 rfl ?_
            refine gX1_53 ho dX1_suffix_38 q1.2.1.1 ?_
            rw [q1.2.1.2.2.2.2.2.2.2.2.1]
            refine gX1_271 ho dX1_suffix_41 X2.1.1 ?_
            rw [X2.1.2.2.1]
            refine z_iload_n ho dX1_suffix_44 rfl ?_
            refine z_iald ho dX1_suffix_45 X2.2.2.1.1 (by omega) (by rw [X2.2.2.1.2]; omega) ?_
            refine z_goto (tgt := 58) ho dX1_suffix_46 (by decide) ?_
            refine r_I ho dX1_suffix_58 (Nat.le_of_ble_eq_true rfl) (Nat.le_of_ble_eq_true rfl) ?_
            exact ⟨q1, q2, Or.inr ⟨by omega, by omega, by omega, by omega, _, _, _, s1, by rw [if_pos c34]⟩⟩
        · exact no (by omega)
/-- how many suffixes begin with a text, and the first one's place -/
def Loc (T K : List Int) (first many : Nat) : Prop := ∃ SL : List Nat, SL.Perm (List.range T.length) ∧ SL.Pairwise (fun x y => T.drop x < T.drop y) ∧ first + many ≤ T.length ∧ ∀ (q : Nat) x, SL[q]? = some x → (K <+: T.drop x ↔ first ≤ q ∧ q < first + many)
theorem SL_uniq {T : List Int} {A B : List Nat} (ha : A.Perm (List.range T.length)) (hA : A.Pairwise (fun x y => T.drop x < T.drop y)) (hb : B.Perm (List.range T.length)) (hB : B.Pairwise (fun x y => T.drop x < T.drop y)) : A = B :=
  List.Perm.eq_of_pairwise (le := fun x y => T.drop x < T.drop y) (fun a b _ _ h1 h2 => absurd (List.lt_trans h1 h2) (List.lt_irrefl _)) hA hB (ha.trans hb.symm)
theorem c_locate (l : Launch) (u : Mem) {x : Nat} {w : Int} {tp fd : List Int} {M : Nat → List KV} {ch : Nat → Int} {VL : List VS} {Ks : List (List Int)} {T : List Int} {Os : List (List Int)} (h : HS u x tp fd M ch VL Ks T Os) (hwr : rng w) : Mt_ l yX1_locate cX1_locate 5 (some .int) 5 0 0 [aR x, aI w] u (qI fun r v => MR x u v ∧ ((¬ (0 ≤ w ∧ w ≤ 1) ∧ r = -1 ∧ HS v x tp fd M ch VL Ks T Os) ∨ (0 ≤ w ∧ w ≤ 1 ∧ HS v x [] fd M ch VL Ks T Os ∧ ∃ f m : Nat, Loc T tp f m ∧ r = if w = 0 then (m : Int) else if 0 < m then (f : Int) else -1))) := by
  have hF := h.2.1
  have kx := hF.1
  refine Mt_of (by decide) (Nat.le_of_ble_eq_true rfl) (fun X ho hX hN hI => ?_)
  subst hX
  show Z X 0 [some (aR x), some (aI w), none, none, none] [] u 0 0
  refine z_wf (fun hw => ?_)
  have no : ¬ (0 ≤ w ∧ w ≤ 1) → Z X 9 [some (aR x), some (aI w), none, none, none] [] u 0 0 := fun hn => by
    refine z_iconst ho dX1_locate_9 ?_
    refine r_I ho dX1_locate_10 (Nat.le_of_ble_eq_true rfl) (Nat.le_of_ble_eq_true rfl) ?_
    exact ⟨MR.rf _ _, Or.inl ⟨hn, rfl, h⟩⟩
  refine z_iload_n ho dX1_locate_0 rfl ?_
  refine z_if_lt (tgt := 9) ho dX1_locate_1 (by decide) hwr (fun c1 => ?_) (fun c1 => ?_)
  · exact no (by omega)
  · 
    refine z_iload_n ho dX1_locate_4 rfl ?_
    refine z_iconst ho dX1_locate_5 ?_
    refine z_icmp_le (tgt := 11) ho dX1_locate_6 (by decide) hwr (by unfold rng; omega) (fun c6 => ?_) (fun c6 => ?_)
    · 
      refine z_aload_n ho dX1_locate_11 rfl ?_
      refine kX1_95 ho hN (c_use _ _ h) dX1_locate_12 kx (by omega) (Nat.le_of_ble_eq_true rfl) (Nat.le_of_ble_eq_true rfl) (Nat.le_of_ble_eq_true rfl) (fun x12 u12 h12 => ?_)
      obtain ⟨rfl, u2, u3, u4, u5, u6⟩ := h12
      refine z_wf (fun hw1 => ?_)
      have M1 : MR x u u12 := ⟨by omega, fun a q1 q2 => u6 a (by omega) (by omega) (by omega)⟩
      have X1 := u3.2.2.2.2.2.2.2
      have F1 := u3.2.1
      refine z_astore_n ho dX1_locate_15 (Nat.le_of_ble_eq_true rfl) rfl ?_
      refine z_aload_n ho dX1_locate_16 rfl ?_
      refine gX1_53 ho dX1_locate_17 F1.1 ?_
      rw [F1.2.2.2.2.2.2.2.2.1]
      refine z_aload_n ho dX1_locate_20 rfl ?_
      refine z_iconst ho dX1_locate_21 ?_
      refine kX1_278 ho hN (c_bound _ _ X1.1.1 X1.1.2.1 X1.1.2.2.1 X1.2 u2.1 (Or.inl rfl)) dX1_locate_22 X1.1.1.1.1 (by omega) (Nat.le_of_ble_eq_true rfl) (Nat.le_of_ble_eq_true rfl) (Nat.le_of_ble_eq_true rfl) (fun x22 u22 h22 => ?_)
      obtain ⟨⟨s1, s2, s3⟩, SL, b, p1, p2, p3, p4, p5⟩ := h22
      refine z_wf (fun hw2 => ?_)
      obtain ⟨h3, M2⟩ := u3.srt hw1 s1 s2 s3
      have X2 := h3.2.2.2.2.2.2.2
      have F2 := h3.2.1
      have hk2 : HK u22 (x + 28) tp := by
        have sm : ∀ a, a = x + 28 ∨ a = x + 29 → Sm u12 u22 a := fun a ha => ⟨(s2.2.1 a).1, (s2.2.1 a).2, s2.2.2.2.1 a (by omega) (by omega) (by omega) (by omega) (by omega), s2.2.2.1 a⟩
        exact u2.same (sm _ (Or.inl rfl)) (sm _ (Or.inr rfl))
      refine z_istore_n ho dX1_locate_25 (Nat.le_of_ble_eq_true rfl) rfl ?_
      refine z_aload_n ho dX1_locate_26 rfl ?_
      refine gX1_53 ho dX1_locate_27 F2.1 ?_
      rw [F2.2.2.2.2.2.2.2.2.1]
      refine z_aload_n ho dX1_locate_30 rfl ?_
      refine z_iconst ho dX1_locate_31 ?_
      refine kX1_278 ho hN (c_bound _ _ X2.1.1 X2.1.2.1 X2.1.2.2.1 X2.2 hk2.1 (Or.inr rfl)) dX1_locate_32 X2.1.1.1.1 (by omega) (Nat.le_of_ble_eq_true rfl) (Nat.le_of_ble_eq_true rfl) (Nat.le_of_ble_eq_true rfl) (fun x32 u32 h32 => ?_)
      obtain ⟨⟨r1, r2, r3⟩, SL', b', t1, t2, t3, t4, t5⟩ := h32
      obtain ⟨h4, M3⟩ := h3.srt hw2 r1 r2 r3
      have eS := SL_uniq t1 t2 p1 p2
      subst eS
      rw [u2.2.2] at p5
      rw [hk2.2.2] at t5
      have hlen : SL'.length = T.length := by have := p1.length_eq; simpa using this
      have hbb : b ≤ b' := by
        rcases Nat.lt_or_ge b' b with z | z
        · have hx : SL'[b']? = some SL'[b'] := List.getElem?_eq_getElem (by omega)
          have := (p5 b' _ hx).mpr z
          have h5 := (t5 b' _ hx).mp (by rcases this with y | y; (· exact Or.inl y); exact absurd y.1 (by decide))
          omega
        · exact z
      have hloc : Loc T tp b (b' - b) := ⟨SL', p1, p2, by omega, fun q y hy => by
        have e1 := p5 q y hy
        have e2 := t5 q y hy
        constructor
        · intro z
          have h1 : q < b' := e2.mp (Or.inr ⟨rfl, z⟩)
          have h2 : ¬ q < b := fun w => by
            rcases e1.mpr w with v | v
            · exact pre_nlt z v
            · exact absurd v.1 (by decide)
          omega
        · rintro ⟨z1, z2⟩
          rcases e2.mpr (by omega) with v | v
          · exact absurd (e1.mp (Or.inl v)) (by omega)
          · exact v.2⟩
      rw [t3, p3]
      have eb : (b' : Int) - (b : Int) = ((b' - b : Nat) : Int) := by omega
      have MM := (M1.tr M2).tr M3
      have hT120 := X1.1.2.2.1
      refine z_iload_n ho dX1_locate_35 rfl ?_
      refine z_isub ho dX1_locate_36 ?_
      refine z_istore ho dX1_locate_37 (Nat.le_of_ble_eq_true rfl) rfl ?_
      refine z_iload_n ho dX1_locate_39 rfl ?_
      refine z_if_ne (tgt := 48) ho dX1_locate_40 (by decide) hwr (fun c40 => ?_) (fun c40 => ?_)
      · 
        refine z_iload ho dX1_locate_48 rfl ?_
        refine z_if_le (tgt := 57) ho dX1_locate_50 (by decide) (by unfold rng; omega) (fun c50 => ?_) (fun c50 => ?_)
        · 
          refine z_iconst ho dX1_locate_57 ?_
          refine r_I ho dX1_locate_58 (Nat.le_of_ble_eq_true rfl) (Nat.le_of_ble_eq_true rfl) ?_
          exact ⟨MM, Or.inr ⟨by omega, by omega, h4, b, b' - b, hloc, by rw [if_neg c40, if_neg (by omega)]⟩⟩
        · 
          refine z_iload_n ho dX1_locate_53 rfl ?_
          refine z_goto (tgt := 58) ho dX1_locate_54 (by decide) ?_
          refine r_I ho dX1_locate_58 (Nat.le_of_ble_eq_true rfl) (Nat.le_of_ble_eq_true rfl) ?_
          exact ⟨MM, Or.inr ⟨by omega, by omega, h4, b, b' - b, hloc, by rw [if_neg c40, if_pos (by omega)]⟩⟩
      · 
        refine z_iload ho dX1_locate_43 rfl ?_
        refine z_goto (tgt := 58) ho dX1_locate_45 (by decide) ?_
        refine r_I ho dX1_locate_58 (Nat.le_of_ble_eq_true rfl) (Nat.le_of_ble_eq_true rfl) ?_
        exact ⟨MM, Or.inr ⟨by omega, by omega, h4, b, b' - b, hloc, by rw [if_pos c40]; omega⟩⟩
    · exact no (by omega)
