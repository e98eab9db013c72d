set_option maxRecDepth 100000
/-! ===== KeyHallModel: views ===== -/
def MVw (of so tl te : Int → Int) (VL : List VS) : Prop := ∀ (j : Nat) vs, VL[j]? = some vs → vs.1 < 3 ∧ (vs.2.2.1 = 0 ∨ vs.2.2.1 = 1) ∧ ((j < 3 ∧ of (j : Int) = -1 ∧ vs.1 = j ∧ vs.2.2.1 = 0 ∧ ∀ s, vs.2.1 s) ∨ (3 ≤ j ∧ ∃ (b : Nat) (vb : VS) (t : List Int), b < j ∧ of (j : Int) = (b : Int) ∧ VL[b]? = some vb ∧ (0 ≤ so (j : Int) ∧ so (j : Int) < 4) ∧ tl (j : Int) = (t.length : Int) ∧ sub_ te (8 * (j : Int)) t.length = t ∧ Tx t ∧ vs.1 = vb.1 ∧ (∀ s, vs.2.1 s ↔ vb.2.1 s ∧ vwP (so (j : Int)) t s) ∧ vs.2.2.1 = if so (j : Int) = 3 then 1 - vb.2.2.1 else vb.2.2.1))
/-- the views -/
def MV (u : Mem) (m : Nat) (VL : List VS) : Prop := iv_ u m 8 = (VL.length : Int) ∧ VL.length ≤ 12 ∧ MVw (iv_ u (m + 7)) (iv_ u (m + 8)) (iv_ u (m + 9)) (iv_ u (m + 10)) VL
theorem Tx.rg {s : List Int} (h : Tx s) : ∀ c ∈ s, 0 ≤ c ∧ c < 65536 := h.2
theorem c_isView (l : Launch) (u : Mem) {m : Nat} {v : Int} {n : Nat} (hm : MF u m) (hn : iv_ u m 8 = (n : Int)) (hn12 : n ≤ 12) (rv : rng v) : Mt_ l yX13_isView cX13_isView 2 (some .boolean) 0 0 0 [aR m, aI v] u (qI fun r w => u = w ∧ qB r (0 ≤ v ∧ v < n)) := by
  refine Mt_of (by decide) (Nat.le_of_ble_eq_true rfl) (fun X ho hX hN hI => ?_)
  subst hX
  show Z X 0 [some (aR m), some (aI v)] [] u 0 0
  have no : ¬ (0 ≤ v ∧ v < (n : Int)) → Z X 16 [some (aR m), some (aI v)] [] u 0 0 := fun h => by
    refine z_iconst ho dX13_isView_16 ?_
    refine r_Z ho dX13_isView_17 (Nat.le_of_ble_eq_true rfl) (Nat.le_of_ble_eq_true rfl) ?_ ?_
    · exact Or.inl rfl
    · exact ⟨rfl, Or.inr ⟨rfl, h⟩⟩
  refine z_iload_n ho dX13_isView_0 rfl ?_
  refine z_if_lt (tgt := 16) ho dX13_isView_1 (by decide) rv (fun c1 => ?_) (fun c1 => ?_)
  · exact no (by omega)
  · 
    refine z_iload_n ho dX13_isView_4 rfl ?_
    refine z_aload_n ho dX13_isView_5 rfl ?_
    refine gX13_28 ho dX13_isView_6 hm.1 ?_
    refine z_icmp_ge (tgt := 16) ho dX13_isView_9 (by decide) rv (by rw [hn]; unfold rng; omega) (fun c9 => ?_) (fun c9 => ?_)
    · exact no (by omega)
    · 
      refine z_iconst ho dX13_isView_12 ?_
      refine z_goto (tgt := 17) ho dX13_isView_13 (by decide) ?_
      refine r_Z ho dX13_isView_17 (Nat.le_of_ble_eq_true rfl) (Nat.le_of_ble_eq_true rfl) ?_ ?_
      · exact Or.inr rfl
      · exact ⟨rfl, Or.inl ⟨rfl, by omega, by omega⟩⟩
theorem c_raise (l : Launch) (u : Mem) {m : Nat} {k : Int} (hm : MF u m) : Mt_ l yX13_raise cX13_raise 2 (some .int) 0 0 0 [aR m, aI k] u (qI fun r w => w = wI_ u m 0 k ∧ r = 0) := by
  refine Mt_of (by decide) (Nat.le_of_ble_eq_true rfl) (fun X ho hX hN hI => ?_)
  subst hX
  show Z X 0 [some (aR m), some (aI k)] [] u 0 0
  refine z_aload_n ho dX13_raise_0 rfl ?_
  refine z_iload_n ho dX13_raise_1 rfl ?_
  refine pX13_99 ho dX13_raise_2 hm.1  ?_
  refine z_iconst ho dX13_raise_5 ?_
  refine r_I ho dX13_raise_6 (Nat.le_of_ble_eq_true rfl) (Nat.le_of_ble_eq_true rfl) ?_
  exact ⟨rfl, rfl⟩
theorem c_mapOf (l : Launch) (u : Mem) {m j : Nat} {VL : List VS} {vs : VS} (hm : MF u m) (hV : MV u m VL) (hj : VL[j]? = some vs) : Mt_ l yX13_mapOf cX13_mapOf 3 (some .int) 0 0 0 [aR m, aI (j : Int)] u (qI fun r w => u = w ∧ r = (vs.1 : Int)) := by
  obtain ⟨-, h12, hM⟩ := hV
  refine Mt_of (by decide) (Nat.le_of_ble_eq_true rfl) (fun X ho hX hN hI => ?_)
  subst hX
  show Z X 0 [some (aR m), some (aI  (j : Int)), none] [] u 0 0
  have key : ∀ (n k : Nat) (vk : VS), k < n → VL[k]? = some vk → vk.1 = vs.1 → Z X 2 [some (aR m), some (aI (j : Int)), some (aI (k : Int))] [] u 0 0 := by
    intro n
    induction n with
    | zero => intro k vk h; omega
    | succ n ih =>
      intro k vk hk hv he
      have hkl := (List.getElem?_eq_some_iff.mp hv).1
      obtain ⟨q1, -, q2⟩ := hM k vk hv
      rcases q2 with ⟨p1, p2, p3, -⟩ | ⟨p1, b, vb, t, p2, p3, p4, -, -, -, -, p5, -⟩
      · 
        refine z_aload_n ho dX13_mapOf_2 rfl ?_
        refine gX13_32 ho dX13_mapOf_3 hm.1 (mget hm.r9 ?_)
        refine z_iload_n ho dX13_mapOf_6 rfl ?_
        refine z_iald ho dX13_mapOf_7 hm.k7 (by omega) (hm.t7 (by omega)) ?_
        refine z_iconst ho dX13_mapOf_8 ?_
        refine z_icmp_eq (tgt := 22) ho dX13_mapOf_9 (by decide) (by rw [p2]; unfold rng; omega) (by unfold rng; omega) (fun c9 => ?_) (fun c9 => ?_)
        · 
          refine z_iload_n ho dX13_mapOf_22 rfl ?_
          refine r_I ho dX13_mapOf_23 (Nat.le_of_ble_eq_true rfl) (Nat.le_of_ble_eq_true rfl) ?_
          exact ⟨rfl, by omega⟩
        · exact absurd p2 c9
      · 
        refine z_aload_n ho dX13_mapOf_2 rfl ?_
        refine gX13_32 ho dX13_mapOf_3 hm.1 (mget hm.r9 ?_)
        refine z_iload_n ho dX13_mapOf_6 rfl ?_
        refine z_iald ho dX13_mapOf_7 hm.k7 (by omega) (hm.t7 (by omega)) ?_
        refine z_iconst ho dX13_mapOf_8 ?_
        refine z_icmp_eq (tgt := 22) ho dX13_mapOf_9 (by decide) (by rw [p3]; unfold rng; omega) (by unfold rng; omega) (fun c9 => ?_) (fun c9 => ?_)
        · omega
        · 
          refine z_aload_n ho dX13_mapOf_12 rfl ?_
          refine gX13_32 ho dX13_mapOf_13 hm.1 (mget hm.r9 ?_)
          refine z_iload_n ho dX13_mapOf_16 rfl ?_
          refine z_iald ho dX13_mapOf_17 hm.k7 (by omega) (hm.t7 (by omega)) ?_
          refine z_istore_n ho dX13_mapOf_18 (Nat.le_of_ble_eq_true rfl) rfl ?_
          refine z_goto (tgt := 2) ho dX13_mapOf_19 (by decide) ?_
          rw [p3]
          exact ih b vb (by omega) p4 (by rw [← p5]; exact he)
  refine z_iload_n ho dX13_mapOf_0 rfl ?_
  refine z_istore_n ho dX13_mapOf_1 (Nat.le_of_ble_eq_true rfl) rfl ?_
  exact key (j + 1) j vs (by omega) hj rfl
theorem c_isTurned (l : Launch) (u : Mem) {m j : Nat} {VL : List VS} {vs : VS} (hm : MF u m) (hV : MV u m VL) (hj : VL[j]? = some vs) : Mt_ l yX13_isTurned cX13_isTurned 4 (some .boolean) 0 0 0 [aR m, aI (j : Int)] u (qI fun r w => u = w ∧ r = vs.2.2.1) := by
  obtain ⟨-, h12, hM⟩ := hV
  refine Mt_of (by decide) (Nat.le_of_ble_eq_true rfl) (fun X ho hX hN hI => ?_)
  subst hX
  show Z X 0 [some (aR m), some (aI  (j : Int)), none, none] [] u 0 0
  have key : ∀ (n k : Nat) (vk : VS) (is : Int), k < n → VL[k]? = some vk → (is = 0 ∨ is = 1) → vs.2.2.1 = (if is = 0 then vk.2.2.1 else 1 - vk.2.2.1) → Z X 4 [some (aR m), some (aI (j : Int)), some (aI is), some (aI (k : Int))] [] u 0 0 := by
    intro n
    induction n with
    | zero => intro k vk is h; omega
    | succ n ih =>
      intro k vk is hk hv his he
      have hkl := (List.getElem?_eq_some_iff.mp hv).1
      obtain ⟨q1, q0, q2⟩ := hM k vk hv
      rcases q2 with ⟨p1, p2, p3, p4, -⟩ | ⟨p1, b, vb, t, p2, p3, p4, p6, -, -, -, -, -, p5⟩
      · 
        refine z_aload_n ho dX13_isTurned_4 rfl ?_
        refine gX13_32 ho dX13_isTurned_5 hm.1 (mget hm.r9 ?_)
        refine z_iload_n ho dX13_isTurned_8 rfl ?_
        refine z_iald ho dX13_isTurned_9 hm.k7 (by omega) (hm.t7 (by omega)) ?_
        refine z_iconst ho dX13_isTurned_10 ?_
        refine z_icmp_eq (tgt := 48) ho dX13_isTurned_11 (by decide) (by rw [p2]; unfold rng; omega) (by unfold rng; omega) (fun c11 => ?_) (fun c11 => ?_)
        · 
          refine z_iload_n ho dX13_isTurned_48 rfl ?_
          refine r_Z ho dX13_isTurned_49 (Nat.le_of_ble_eq_true rfl) (Nat.le_of_ble_eq_true rfl) ?_ ?_
          · exact his
          · exact ⟨rfl, by rw [he, p4]; split <;> omega⟩
        · exact absurd p2 c11
      · have q0' := (hM b vb p4).2.1
        have nx : ∀ i' : Int, (i' = 0 ∨ i' = 1) → vs.2.2.1 = (if i' = 0 then vb.2.2.1 else 1 - vb.2.2.1) → Z X 37 [some (aR m), some (aI (j : Int)), some (aI is), some (aI (k : Int))] [aI i'] u 0 0 := fun i' h1 h2 => by
          refine z_istore_n ho dX13_isTurned_37 (Nat.le_of_ble_eq_true rfl) rfl ?_
          refine z_aload_n ho dX13_isTurned_38 rfl ?_
          refine gX13_32 ho dX13_isTurned_39 hm.1 (mget hm.r9 ?_)
          refine z_iload_n ho dX13_isTurned_42 rfl ?_
          refine z_iald ho dX13_isTurned_43 hm.k7 (by omega) (hm.t7 (by omega)) ?_
          refine z_istore_n ho dX13_isTurned_44 (Nat.le_of_ble_eq_true rfl) rfl ?_
          refine z_goto (tgt := 4) ho dX13_isTurned_45 (by decide) ?_
          rw [p3]
          exact ih b vb i' (by omega) p4 h1 h2
        refine z_aload_n ho dX13_isTurned_4 rfl ?_
        refine gX13_32 ho dX13_isTurned_5 hm.1 (mget hm.r9 ?_)
        refine z_iload_n ho dX13_isTurned_8 rfl ?_
        refine z_iald ho dX13_isTurned_9 hm.k7 (by omega) (hm.t7 (by omega)) ?_
        refine z_iconst ho dX13_isTurned_10 ?_
        refine z_icmp_eq (tgt := 48) ho dX13_isTurned_11 (by decide) (by rw [p3]; unfold rng; omega) (by unfold rng; omega) (fun c11 => ?_) (fun c11 => ?_)
        · omega
        · 
          refine z_aload_n ho dX13_isTurned_14 rfl ?_
          refine gX13_35 ho dX13_isTurned_15 hm.1 (mget hm.r10 ?_)
          refine z_iload_n ho dX13_isTurned_18 rfl ?_
          refine z_iald ho dX13_isTurned_19 hm.k8 (by omega) (hm.t8 (by omega)) ?_
          refine z_iconst ho dX13_isTurned_20 ?_
          refine z_icmp_ne (tgt := 36) ho dX13_isTurned_21 (by decide) (by unfold rng; omega) (by unfold rng; omega) (fun c21 => ?_) (fun c21 => ?_)
          · 
            refine z_iload_n ho dX13_isTurned_36 rfl ?_
            refine nx is his ?_
            rw [he, p5, if_neg c21]
          · rw [p5, if_pos c21] at he
            refine z_iload_n ho dX13_isTurned_24 rfl ?_
            refine z_if_ne (tgt := 32) ho dX13_isTurned_25 (by decide) (by unfold rng; omega) (fun c25 => ?_) (fun c25 => ?_)
            · 
              refine z_iconst ho dX13_isTurned_32 ?_
              refine z_goto (tgt := 37) ho dX13_isTurned_33 (by decide) ?_
              refine nx 0 (Or.inl rfl) ?_
              rw [if_neg c25] at he
              rw [if_pos rfl]; omega
            · 
              refine z_iconst ho dX13_isTurned_28 ?_
              refine z_goto (tgt := 37) ho dX13_isTurned_29 (by decide) ?_
              refine nx 1 (Or.inr rfl) ?_
              rw [if_pos c25] at he
              rw [if_neg (by decide)]; omega
  refine z_iconst ho dX13_isTurned_0 ?_
  refine z_istore_n ho dX13_isTurned_1 (Nat.le_of_ble_eq_true rfl) rfl ?_
  refine z_iload_n ho dX13_isTurned_2 rfl ?_
  refine z_istore_n ho dX13_isTurned_3 (Nat.le_of_ble_eq_true rfl) rfl ?_
  exact key (j + 1) j vs 0 (by omega) hj (Or.inl rfl) (by rw [if_pos rfl])
theorem c_within (l : Launch) (u : Mem) {m j a : Nat} {i : Int} {VL : List VS} {vs : VS} {s : List Int} (hm : MF u m) (hV : MV u m VL) (hj : VL[j]? = some vs) (ha : TA u a i s) : Mt_ l yX13_within cX13_within 7 (some .boolean) 2 0 0 [aR m, aI (j : Int), aR a, aI i, aI s.length] u (qI fun r w => u = w ∧ qB r (vs.2.1 s)) := by
  obtain ⟨-, h12, hM⟩ := hV
  refine Mt_of (by decide) (Nat.le_of_ble_eq_true rfl) (fun X ho hX hN hI => ?_)
  subst hX
  show Z X 0 [some (aR m), some (aI  (j : Int)), some (aR a), some (aI i), some (aI s.length), none, none] [] u 0 0
  have key : ∀ (n k : Nat) (vk : VS) (g : Int), k < n → VL[k]? = some vk → (g = 0 ∨ g = 1) → (vs.2.1 s ↔ (g = 1 ∧ vk.2.1 s)) → Z X 6 [some (aR m), some (aI (j : Int)), some (aR a), some (aI i), some (aI s.length), some (aI g), some (aI (k : Int))] [] u 0 0 := by
    intro n
    induction n with
    | zero => intro k vk g h; omega
    | succ n ih =>
      intro k vk g hk hv hg he
      have hkl := (List.getElem?_eq_some_iff.mp hv).1
      obtain ⟨q1, q0, q2⟩ := hM k vk hv
      rcases q2 with ⟨p1, p2, p3, p4, p7⟩ | ⟨p1, b, vb, t, p2, p3, p4, p6, p8, p9, p10, -, p5, -⟩
      · 
        refine z_aload_n ho dX13_within_6 rfl ?_
        refine gX13_32 ho dX13_within_7 hm.1 (mget hm.r9 ?_)
        refine z_iload ho dX13_within_10 rfl ?_
        refine z_iald ho dX13_within_12 hm.k7 (by omega) (hm.t7 (by omega)) ?_
        refine z_iconst ho dX13_within_13 ?_
        refine z_icmp_eq (tgt := 175) ho dX13_within_14 (by decide) (by rw [p2]; unfold rng; omega) (by unfold rng; omega) (fun c14 => ?_) (fun c14 => ?_)
        · 
          refine z_iload ho dX13_within_175 rfl ?_
          refine r_Z ho dX13_within_177 (Nat.le_of_ble_eq_true rfl) (Nat.le_of_ble_eq_true rfl) ?_ ?_
          · exact hg
          · refine ⟨rfl, ?_⟩
            rcases hg with z | z
            · exact Or.inr ⟨z, fun y => by have := (he.mp y).1; omega⟩
            · exact Or.inl ⟨z, he.mpr ⟨z, p7 s⟩⟩
        · exact absurd p2 c14
      · have hb : TA u (m + 10) (8 * (k : Int)) t := ⟨hm.k10, by omega, by rw [hm.l10]; have := p10.1; omega, p9, by have := p10.1; omega, p10.2⟩
        have e5 := p5 s
        -- what follows: good stands
        have nx : ∀ g' : Int, (g' = 0 ∨ g' = 1) → (vs.2.1 s ↔ (g' = 1 ∧ vb.2.1 s)) → Z X 163 [some (aR m), some (aI (j : Int)), some (aR a), some (aI i), some (aI s.length), some (aI g'), some (aI (k : Int))] [] u 0 0 := fun g' h1 h2 => by
          refine z_aload_n ho dX13_within_163 rfl ?_
          refine gX13_32 ho dX13_within_164 hm.1 (mget hm.r9 ?_)
          refine z_iload ho dX13_within_167 rfl ?_
          refine z_iald ho dX13_within_169 hm.k7 (by omega) (hm.t7 (by omega)) ?_
          refine z_istore ho dX13_within_170 (Nat.le_of_ble_eq_true rfl) rfl ?_
          refine z_goto (tgt := 6) ho dX13_within_172 (by decide) ?_
          rw [p3]
          exact ih b vb g' (by omega) p4 h1 h2
        refine z_aload_n ho dX13_within_6 rfl ?_
        refine gX13_32 ho dX13_within_7 hm.1 (mget hm.r9 ?_)
        refine z_iload ho dX13_within_10 rfl ?_
        refine z_iald ho dX13_within_12 hm.k7 (by omega) (hm.t7 (by omega)) ?_
        refine z_iconst ho dX13_within_13 ?_
        refine z_icmp_eq (tgt := 175) ho dX13_within_14 (by decide) (by rw [p3]; unfold rng; omega) (by unfold rng; omega) (fun c14 => ?_) (fun c14 => ?_)
        · omega
        · have v012 : vwP (iv_ u (m + 8) (k : Int)) t s ↔ ((iv_ u (m + 8) (k : Int) = 0 → t <+: s) ∧ (iv_ u (m + 8) (k : Int) = 1 → s < t) ∧ (iv_ u (m + 8) (k : Int) = 2 → ¬ s < t)) := Iff.rfl
          have t114 : ∀ g' : Int, iv_ u (m + 8) (k : Int) ≠ 0 → iv_ u (m + 8) (k : Int) ≠ 1 → g' = g → Z X 114 [some (aR m), some (aI (j : Int)), some (aR a), some (aI i), some (aI s.length), some (aI g'), some (aI (k : Int))] [] u 0 0 := fun g' n0 n1 hg' => by
            subst hg'
            have fin : ∀ h' : Int, (h' = 0 ∨ h' = 1) → (vs.2.1 s ↔ (h' = 1 ∧ vb.2.1 s)) → Z X 161 [some (aR m), some (aI (j : Int)), some (aR a), some (aI i), some (aI s.length), some (aI g'), some (aI (k : Int))] [aI h'] u 0 0 := fun h' y1 y2 => by
              refine z_istore ho dX13_within_161 (Nat.le_of_ble_eq_true rfl) rfl ?_
              exact nx h' y1 y2
            refine z_aload_n ho dX13_within_114 rfl ?_
            refine gX13_35 ho dX13_within_115 hm.1 (mget hm.r10 ?_)
            refine z_iload ho dX13_within_118 rfl ?_
            refine z_iald ho dX13_within_120 hm.k8 (by omega) (hm.t8 (by omega)) ?_
            refine z_iconst ho dX13_within_121 ?_
            refine z_icmp_ne (tgt := 163) ho dX13_within_122 (by decide) (by unfold rng; omega) (by unfold rng; omega) (fun c122 => ?_) (fun c122 => ?_)
            · exact nx g' hg (by rw [he, e5, v012]; constructor; (· exact fun z => ⟨z.1, z.2.1⟩); exact fun z => ⟨z.1, z.2, fun y => absurd y n0, fun y => absurd y n1, fun y => absurd y c122⟩)
            · 
              refine z_iload ho dX13_within_125 rfl ?_
              refine z_if_eq (tgt := 160) ho dX13_within_127 (by decide) (by unfold rng; omega) (fun c127 => ?_) (fun c127 => ?_)
              · 
                refine z_iconst ho dX13_within_160 ?_
                exact fin 0 (Or.inl rfl) ⟨fun z => absurd (he.mp z).1 (by omega), fun z => absurd z.1 (by decide)⟩
              · 
                refine z_aload_n ho dX13_within_130 rfl ?_
                refine z_iload_n ho dX13_within_131 rfl ?_
                refine z_iload ho dX13_within_132 rfl ?_
                refine z_aload_n ho dX13_within_134 rfl ?_
                refine gX13_41 ho dX13_within_135 hm.1 (mget hm.r12 ?_)
                refine z_bipush ho dX13_within_138 rfl ?_
                refine z_iload ho dX13_within_140 rfl ?_
                refine z_imul ho dX13_within_142 ?_
                refine z_aload_n ho dX13_within_143 rfl ?_
                refine gX13_38 ho dX13_within_144 hm.1 (mget hm.r11 ?_)
                refine z_iload ho dX13_within_147 rfl ?_
                refine z_iald ho dX13_within_149 hm.k9 (by omega) (hm.t9 (by omega)) ?_
                rw [p8]
                refine kX13_106 ho hN (c_order _ _ ha hb) dX13_within_150 (Nat.le_of_ble_eq_true rfl) (Nat.le_of_ble_eq_true rfl) (Nat.le_of_ble_eq_true rfl) (Nat.le_of_ble_eq_true rfl) (fun x150 u150 h150 => ?_)
                obtain ⟨rfl, hs⟩ := h150
                refine z_if_lt (tgt := 160) ho dX13_within_153 (by decide) hs.rg (fun c153 => ?_) (fun c153 => ?_)
                · 
                  refine z_iconst ho dX13_within_160 ?_
                  refine fin 0 (Or.inl rfl) ⟨fun z => ?_, fun z => absurd z.1 (by decide)⟩
                  exact absurd (hs.2.1.mp c153) ((v012.mp (e5.mp (he.mp z).2).2).2.2 c122)
                · 
                  refine z_iconst ho dX13_within_156 ?_
                  refine z_goto (tgt := 161) ho dX13_within_157 (by decide) ?_
                  refine fin 1 (Or.inr rfl) ⟨fun z => ⟨rfl, (e5.mp (he.mp z).2).1⟩, fun z => he.mpr ⟨by omega, e5.mpr ⟨z.2, v012.mpr ⟨fun y => absurd y n0, fun y => absurd y n1, fun _ y => ?_⟩⟩⟩⟩
                  have := hs.2.1.mpr y
                  omega
          have t65 : ∀ g' : Int, iv_ u (m + 8) (k : Int) ≠ 0 → g' = g → Z X 65 [some (aR m), some (aI (j : Int)), some (aR a), some (aI i), some (aI s.length), some (aI g'), some (aI (k : Int))] [] u 0 0 := fun g' n0 hg' => by
            refine z_aload_n ho dX13_within_65 rfl ?_
            refine gX13_35 ho dX13_within_66 hm.1 (mget hm.r10 ?_)
            refine z_iload ho dX13_within_69 rfl ?_
            refine z_iald ho dX13_within_71 hm.k8 (by omega) (hm.t8 (by omega)) ?_
            refine z_iconst ho dX13_within_72 ?_
            refine z_icmp_ne (tgt := 114) ho dX13_within_73 (by decide) (by unfold rng; omega) (by unfold rng; omega) (fun c73 => ?_) (fun c73 => ?_)
            · exact t114 g' n0 c73 hg'
            · subst hg'
              have skip : ∀ h' : Int, (h' = 0 ∨ h' = 1) → (vs.2.1 s ↔ (h' = 1 ∧ vb.2.1 s)) → Z X 112 [some (aR m), some (aI (j : Int)), some (aR a), some (aI i), some (aI s.length), some (aI g'), some (aI (k : Int))] [aI h'] u 0 0 := fun h' y1 y2 => by
                refine z_istore ho dX13_within_112 (Nat.le_of_ble_eq_true rfl) rfl ?_
                refine z_aload_n ho dX13_within_114 rfl ?_
                refine gX13_35 ho dX13_within_115 hm.1 (mget hm.r10 ?_)
                refine z_iload ho dX13_within_118 rfl ?_
                refine z_iald ho dX13_within_120 hm.k8 (by omega) (hm.t8 (by omega)) ?_
                refine z_iconst ho dX13_within_121 ?_
                refine z_icmp_ne (tgt := 163) ho dX13_within_122 (by decide) (by rw [c73]; unfold rng; omega) (by unfold rng; omega) (fun c122 => ?_) (fun c122 => ?_)
                · exact nx h' y1 y2
                · omega
              refine z_iload ho dX13_within_76 rfl ?_
              refine z_if_eq (tgt := 111) ho dX13_within_78 (by decide) (by unfold rng; omega) (fun c78 => ?_) (fun c78 => ?_)
              · 
                refine z_iconst ho dX13_within_111 ?_
                exact skip 0 (Or.inl rfl) ⟨fun z => absurd (he.mp z).1 (by omega), fun z => absurd z.1 (by decide)⟩
              · 
                refine z_aload_n ho dX13_within_81 rfl ?_
                refine z_iload_n ho dX13_within_82 rfl ?_
                refine z_iload ho dX13_within_83 rfl ?_
                refine z_aload_n ho dX13_within_85 rfl ?_
                refine gX13_41 ho dX13_within_86 hm.1 (mget hm.r12 ?_)
                refine z_bipush ho dX13_within_89 rfl ?_
                refine z_iload ho dX13_within_91 rfl ?_
                refine z_imul ho dX13_within_93 ?_
                refine z_aload_n ho dX13_within_94 rfl ?_
                refine gX13_38 ho dX13_within_95 hm.1 (mget hm.r11 ?_)
                refine z_iload ho dX13_within_98 rfl ?_
                refine z_iald ho dX13_within_100 hm.k9 (by omega) (hm.t9 (by omega)) ?_
                rw [p8]
                refine kX13_106 ho hN (c_order _ _ ha hb) dX13_within_101 (Nat.le_of_ble_eq_true rfl) (Nat.le_of_ble_eq_true rfl) (Nat.le_of_ble_eq_true rfl) (Nat.le_of_ble_eq_true rfl) (fun x101 u101 h101 => ?_)
                obtain ⟨rfl, hs⟩ := h101
                refine z_if_ge (tgt := 111) ho dX13_within_104 (by decide) hs.rg (fun c104 => ?_) (fun c104 => ?_)
                · 
                  refine z_iconst ho dX13_within_111 ?_
                  refine skip 0 (Or.inl rfl) ⟨fun z => ?_, fun z => absurd z.1 (by decide)⟩
                  have := hs.2.1.mpr ((v012.mp (e5.mp (he.mp z).2).2).2.1 c73)
                  omega
                · 
                  refine z_iconst ho dX13_within_107 ?_
                  refine z_goto (tgt := 112) ho dX13_within_108 (by decide) ?_
                  refine skip 1 (Or.inr rfl) ⟨fun z => ⟨rfl, (e5.mp (he.mp z).2).1⟩, fun z => he.mpr ⟨by omega, e5.mpr ⟨z.2, v012.mpr ⟨fun y => absurd y n0, fun _ => hs.2.1.mp (by omega), fun y => by omega⟩⟩⟩⟩
          refine z_aload_n ho dX13_within_17 rfl ?_
          refine gX13_35 ho dX13_within_18 hm.1 (mget hm.r10 ?_)
          refine z_iload ho dX13_within_21 rfl ?_
          refine z_iald ho dX13_within_23 hm.k8 (by omega) (hm.t8 (by omega)) ?_
          refine z_if_ne (tgt := 65) ho dX13_within_24 (by decide) (by unfold rng; omega) (fun c24 => ?_) (fun c24 => ?_)
          · exact t65 g c24 rfl
          · have skip : ∀ h' : Int, (h' = 0 ∨ h' = 1) → (vs.2.1 s ↔ (h' = 1 ∧ vb.2.1 s)) → Z X 63 [some (aR m), some (aI (j : Int)), some (aR a), some (aI i), some (aI s.length), some (aI g), some (aI (k : Int))] [aI h'] u 0 0 := fun h' y1 y2 => by
              refine z_istore ho dX13_within_63 (Nat.le_of_ble_eq_true rfl) rfl ?_
              refine z_aload_n ho dX13_within_65 rfl ?_
              refine gX13_35 ho dX13_within_66 hm.1 (mget hm.r10 ?_)
              refine z_iload ho dX13_within_69 rfl ?_
              refine z_iald ho dX13_within_71 hm.k8 (by omega) (hm.t8 (by omega)) ?_
              refine z_iconst ho dX13_within_72 ?_
              refine z_icmp_ne (tgt := 114) ho dX13_within_73 (by decide) (by rw [c24]; unfold rng; omega) (by unfold rng; omega) (fun c73 => ?_) (fun c73 => ?_)
              · 
                refine z_aload_n ho dX13_within_114 rfl ?_
                refine gX13_35 ho dX13_within_115 hm.1 (mget hm.r10 ?_)
                refine z_iload ho dX13_within_118 rfl ?_
                refine z_iald ho dX13_within_120 hm.k8 (by omega) (hm.t8 (by omega)) ?_
                refine z_iconst ho dX13_within_121 ?_
                refine z_icmp_ne (tgt := 163) ho dX13_within_122 (by decide) (by rw [c24]; unfold rng; omega) (by unfold rng; omega) (fun c122 => ?_) (fun c122 => ?_)
                · exact nx h' y1 y2
                · omega
              · omega
            refine z_iload ho dX13_within_27 rfl ?_
            refine z_if_eq (tgt := 62) ho dX13_within_29 (by decide) (by unfold rng; omega) (fun c29 => ?_) (fun c29 => ?_)
            · 
              refine z_iconst ho dX13_within_62 ?_
              exact skip 0 (Or.inl rfl) ⟨fun z => absurd (he.mp z).1 (by omega), fun z => absurd z.1 (by decide)⟩
            · 
              refine z_aload_n ho dX13_within_32 rfl ?_
              refine z_iload_n ho dX13_within_33 rfl ?_
              refine z_iload ho dX13_within_34 rfl ?_
              refine z_aload_n ho dX13_within_36 rfl ?_
              refine gX13_41 ho dX13_within_37 hm.1 (mget hm.r12 ?_)
              refine z_bipush ho dX13_within_40 rfl ?_
              refine z_iload ho dX13_within_42 rfl ?_
              refine z_imul ho dX13_within_44 ?_
              refine z_aload_n ho dX13_within_45 rfl ?_
              refine gX13_38 ho dX13_within_46 hm.1 (mget hm.r11 ?_)
              refine z_iload ho dX13_within_49 rfl ?_
              refine z_iald ho dX13_within_51 hm.k9 (by omega) (hm.t9 (by omega)) ?_
              rw [p8]
              refine kX13_110 ho hN (c_begins _ _ ha hb) dX13_within_52 (Nat.le_of_ble_eq_true rfl) (Nat.le_of_ble_eq_true rfl) (Nat.le_of_ble_eq_true rfl) (Nat.le_of_ble_eq_true rfl) (fun x52 u52 h52 => ?_)
              obtain ⟨rfl, hs⟩ := h52
              refine z_if_eq (tgt := 62) ho dX13_within_55 (by decide) (by rcases hs with ⟨z, -⟩ | ⟨z, -⟩ <;> rw [z] <;> unfold rng <;> omega) (fun c55 => ?_) (fun c55 => ?_)
              · 
                refine z_iconst ho dX13_within_62 ?_
                refine skip 0 (Or.inl rfl) ⟨fun z => ?_, fun z => absurd z.1 (by decide)⟩
                rcases hs with ⟨y, -⟩ | ⟨-, y⟩
                · omega
                · exact absurd ((v012.mp (e5.mp (he.mp z).2).2).1 c24) y
              · 
                refine z_iconst ho dX13_within_58 ?_
                refine z_goto (tgt := 63) ho dX13_within_59 (by decide) ?_
                refine skip 1 (Or.inr rfl) ⟨fun z => ⟨rfl, (e5.mp (he.mp z).2).1⟩, fun z => he.mpr ⟨by omega, e5.mpr ⟨z.2, v012.mpr ⟨fun _ => ?_, fun y => by omega, fun y => by omega⟩⟩⟩⟩
                rcases hs with ⟨-, y⟩ | ⟨y, -⟩
                · exact y
                · exact absurd y c55
  refine z_iconst ho dX13_within_0 ?_
  refine z_istore ho dX13_within_1 (Nat.le_of_ble_eq_true rfl) rfl ?_
  refine z_iload_n ho dX13_within_3 rfl ?_
  refine z_istore ho dX13_within_4 (Nat.le_of_ble_eq_true rfl) rfl ?_
  exact key (j + 1) j vs 1 (by omega) hj (Or.inr rfl) ⟨fun z => ⟨rfl, z⟩, fun z => z.2⟩
/-! the maps -/
def MK (le ln va mn tu : Int → Int) (M : Nat → List KV) (ch : Nat → Int) : Prop := ∀ i : Nat, i < 3 → mn (i : Int) = ((M i).length : Int) ∧ tu (i : Int) = ch i ∧ (M i).length ≤ 40 ∧ ((M i).map Prod.fst).Nodup ∧ ∀ (k : Nat) p, (M i)[k]? = some p → ln (64 * (i : Int) + (k : Int)) = (p.1.length : Int) ∧ sub_ le (8 * (64 * (i : Int) + (k : Int))) p.1.length = p.1 ∧ va (64 * (i : Int) + (k : Int)) = p.2 ∧ Tx p.1 ∧ rng p.2
def MM (u : Mem) (m : Nat) (M : Nat → List KV) (ch : Nat → Int) : Prop := MK (iv_ u (m + 4)) (iv_ u (m + 5)) (iv_ u (m + 6)) (iv_ u (m + 2)) (iv_ u (m + 3)) M ch
/-- a key of a map -/
theorem MM.key {u : Mem} {m i k : Nat} {M : Nat → List KV} {ch : Nat → Int} {p : KV} (h : MM u m M ch) (hm : MF u m) (hi : i < 3) (hk : (M i)[k]? = some p) : iv_ u (m + 5) (64 * (i : Int) + (k : Int)) = (p.1.length : Int) ∧ TA u (m + 4) (8 * (64 * (i : Int) + (k : Int))) p.1 ∧ iv_ u (m + 6) (64 * (i : Int) + (k : Int)) = p.2 ∧ Tx p.1 ∧ rng p.2 ∧ k < 40 := by
  obtain ⟨h1, h2, h3, -, h4⟩ := h i hi
  obtain ⟨q1, q2, q3, q4, q5⟩ := h4 k p hk
  have hkl := (List.getElem?_eq_some_iff.mp hk).1
  refine ⟨q1, ⟨hm.k4, by omega, by rw [hm.l4]; have := q4.1; omega, q2, by have := q4.1; omega, q4.2⟩, q3, q4, q5, by omega⟩
theorem c_mhas (l : Launch) (u : Mem) {m j k : Nat} {VL : List VS} {vs : VS} {M : Nat → List KV} {ch : Nat → Int} {p : KV} (hm : MF u m) (hV : MV u m VL) (hK : MM u m M ch) (hj : VL[j]? = some vs) (hk : (M vs.1)[k]? = some p) : Mt_ l yX13_has cX13_has 4 (some .boolean) 3 0 0 [aR m, aI (j : Int), aI (k : Int)] u (qI fun r w => u = w ∧ qB r (vs.2.1 p.1)) := by
  have v3 := (hV.2.2 j vs hj).1
  obtain ⟨q1, q2, q3, q4, q5, q6⟩ := hK.key hm v3 hk
  refine Mt_of (by decide) (Nat.le_of_ble_eq_true rfl) (fun X ho hX hN hI => ?_)
  subst hX
  show Z X 0 [some (aR m), some (aI  (j : Int)), some (aI  (k : Int)), none] [] u 0 0
  refine z_bipush ho dX13_has_0 rfl ?_
  refine z_aload_n ho dX13_has_2 rfl ?_
  refine z_iload_n ho dX13_has_3 rfl ?_
  refine kX13_114 ho hN (c_mapOf _ _ hm hV hj) dX13_has_4 hm.1 (Nat.le_of_ble_eq_true rfl) (Nat.le_of_ble_eq_true rfl) (Nat.le_of_ble_eq_true rfl) (Nat.le_of_ble_eq_true rfl) (fun x4 u4 h4 => ?_)
  obtain ⟨rfl, rfl⟩ := h4
  refine z_imul ho dX13_has_7 ?_
  refine z_iload_n ho dX13_has_8 rfl ?_
  refine z_iadd ho dX13_has_9 ?_
  refine z_istore_n ho dX13_has_10 (Nat.le_of_ble_eq_true rfl) rfl ?_
  refine z_aload_n ho dX13_has_11 rfl ?_
  refine z_iload_n ho dX13_has_12 rfl ?_
  refine z_aload_n ho dX13_has_13 rfl ?_
  refine gX13_19 ho dX13_has_14 hm.1 (mget hm.r5 ?_)
  refine z_bipush ho dX13_has_17 rfl ?_
  refine z_iload_n ho dX13_has_19 rfl ?_
  refine z_imul ho dX13_has_20 ?_
  refine z_aload_n ho dX13_has_21 rfl ?_
  refine gX13_22 ho dX13_has_22 hm.1 (mget hm.r6 ?_)
  refine z_iload_n ho dX13_has_25 rfl ?_
  refine z_iald ho dX13_has_26 hm.k5 (by omega) (hm.t5 (by omega)) ?_
  rw [q1]
  refine kX13_118 ho hN (c_within _ _ hm hV hj q2) dX13_has_27 hm.1 (Nat.le_of_ble_eq_true rfl) (Nat.le_of_ble_eq_true rfl) (Nat.le_of_ble_eq_true rfl) (Nat.le_of_ble_eq_true rfl) (fun x27 u27 h27 => ?_)
  obtain ⟨rfl, hs⟩ := h27
  refine r_Z ho dX13_has_30 (Nat.le_of_ble_eq_true rfl) (Nat.le_of_ble_eq_true rfl) ?_ ?_
  · rcases hs with z | z
    · exact Or.inr z.1
    · exact Or.inl z.1
  · exact ⟨rfl, hs⟩
/-- where a text is in a map -/
theorem c_keyOf (l : Launch) (u : Mem) {m i a : Nat} {at_ : Int} {M : Nat → List KV} {ch : Nat → Int} {t : List Int} (hm : MF u m) (hK : MM u m M ch) (hi : i < 3) (ha : TA u a at_ t) : Mt_ l yX13_keyOf cX13_keyOf 6 (some .int) 2 0 0 [aR m, aI (i : Int), aR a, aI at_, aI t.length] u (qI fun r w => u = w ∧ ((r = -1 ∧ ∀ p ∈ M i, p.1 ≠ t) ∨ ∃ (k : Nat) (p : KV), (M i)[k]? = some p ∧ p.1 = t ∧ r = 64 * (i : Int) + (k : Int))) := by
  obtain ⟨h1, h2, h3, h4, -⟩ := hK i hi
  refine Mt_of (by decide) (Nat.le_of_ble_eq_true rfl) (fun X ho hX hN hI => ?_)
  subst hX
  show Z X 0 [some (aR m), some (aI  (i : Int)), some (aR a), some (aI at_), some (aI t.length), none] [] u 0 0
  have key : ∀ (d k : Nat), d + k = (M i).length → (∀ (j : Nat) p, j < k → (M i)[j]? = some p → p.1 ≠ t) → Z X 3 [some (aR m), some (aI (i : Int)), some (aR a), some (aI at_), some (aI t.length), some (aI (k : Int))] [] u 0 0 := by
    intro d
    induction d with
    | zero =>
      intro k hk hno
      refine z_iload ho dX13_keyOf_3 rfl ?_
      refine z_aload_n ho dX13_keyOf_5 rfl ?_
      refine gX13_13 ho dX13_keyOf_6 hm.1 (mget hm.r3 ?_)
      refine z_iload_n ho dX13_keyOf_9 rfl ?_
      refine z_iald ho dX13_keyOf_10 hm.k2 (by omega) (hm.t2 (by omega)) ?_
      refine z_icmp_ge (tgt := 46) ho dX13_keyOf_11 (by decide) (by unfold rng; omega) (by rw [h1]; unfold rng; omega) (fun c11 => ?_) (fun c11 => ?_)
      · 
        refine z_iconst ho dX13_keyOf_46 ?_
        refine r_I ho dX13_keyOf_47 (Nat.le_of_ble_eq_true rfl) (Nat.le_of_ble_eq_true rfl) ?_
        refine ⟨rfl, Or.inl ⟨rfl, fun p hp => ?_⟩⟩
        obtain ⟨j, hj, hjp⟩ := List.mem_iff_getElem.mp hp
        exact hno j p (by omega) (by rw [List.getElem?_eq_getElem hj, hjp])
      · omega
    | succ d ih =>
      intro k hk hno
      have hkp : (M i)[k]? = some (M i)[k] := List.getElem?_eq_getElem (by omega)
      generalize (M i)[k] = p at hkp
      obtain ⟨q1, q2, q3, q4, q5, q6⟩ := hK.key hm hi hkp
      refine z_iload ho dX13_keyOf_3 rfl ?_
      refine z_aload_n ho dX13_keyOf_5 rfl ?_
      refine gX13_13 ho dX13_keyOf_6 hm.1 (mget hm.r3 ?_)
      refine z_iload_n ho dX13_keyOf_9 rfl ?_
      refine z_iald ho dX13_keyOf_10 hm.k2 (by omega) (hm.t2 (by omega)) ?_
      refine z_icmp_ge (tgt := 46) ho dX13_keyOf_11 (by decide) (by unfold rng; omega) (by rw [h1]; unfold rng; omega) (fun c11 => ?_) (fun c11 => ?_)
      · omega
      · 
        refine z_aload_n ho dX13_keyOf_14 rfl ?_
        refine z_bipush ho dX13_keyOf_15 rfl ?_
        refine z_iload_n ho dX13_keyOf_17 rfl ?_
        refine z_imul ho dX13_keyOf_18 ?_
        refine z_iload ho dX13_keyOf_19 rfl ?_
        refine z_iadd ho dX13_keyOf_21 ?_
        refine z_aload_n ho dX13_keyOf_22 rfl ?_
        refine z_iload_n ho dX13_keyOf_23 rfl ?_
        refine z_iload ho dX13_keyOf_24 rfl ?_
        refine kX13_129 ho hN (c_orderOf _ _ hm (by omega) (by omega) q1 q2 ha) dX13_keyOf_26 hm.1 (Nat.le_of_ble_eq_true rfl) (Nat.le_of_ble_eq_true rfl) (Nat.le_of_ble_eq_true rfl) (Nat.le_of_ble_eq_true rfl) (fun x26 u26 h26 => ?_)
        obtain ⟨rfl, hs⟩ := h26
        refine z_if_ne (tgt := 40) ho dX13_keyOf_29 (by decide) hs.rg (fun c29 => ?_) (fun c29 => ?_)
        · 
          refine z_iinc ho dX13_keyOf_40 rfl rfl ?_
          refine z_goto (tgt := 3) ho dX13_keyOf_43 (by decide) ?_
          exact ih (k + 1) (by omega) (fun j p' hj hp' => by
            rcases Nat.lt_or_eq_of_le (show j ≤ k by omega) with z | z
            · exact hno j p' z hp'
            · rw [z, hkp] at hp'
              cases hp'
              exact fun y => c29 (hs.2.2.mpr y))
        · 
          refine z_bipush ho dX13_keyOf_32 rfl ?_
          refine z_iload_n ho dX13_keyOf_34 rfl ?_
          refine z_imul ho dX13_keyOf_35 ?_
          refine z_iload ho dX13_keyOf_36 rfl ?_
          refine z_iadd ho dX13_keyOf_38 ?_
          refine r_I ho dX13_keyOf_39 (Nat.le_of_ble_eq_true rfl) (Nat.le_of_ble_eq_true rfl) ?_
          exact ⟨rfl, Or.inr ⟨k, p, hkp, hs.2.2.mp c29, rfl⟩⟩
  refine z_iconst ho dX13_keyOf_0 ?_
  refine z_istore ho dX13_keyOf_1 (Nat.le_of_ble_eq_true rfl) rfl ?_
  exact key (M i).length 0 rfl (fun j p hj => by omega)
