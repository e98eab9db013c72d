set_option maxRecDepth 100000
/-! ===== KeyHallModel: freeze ===== -/
theorem Cls.ext {Ks Ks' : List (List Int)} (hk : ∀ x, x ∈ Ks ↔ x ∈ Ks') (Rs : List (List Int → Prop)) (h : Cls Ks Rs) : Cls Ks' Rs := by
  have e : ∀ p, res Ks p = res Ks' p := fun p => funext fun w => propext (hk _)
  have e2 : ∀ p, Pre Ks p ↔ Pre Ks' p := fun p => by unfold Pre; simp only [hk]
  exact ⟨h.1, fun R => by rw [h.2]; simp only [e, e2]⟩
theorem MAu.ext {n sp sr : Int} {fi sf sc st : Int → Int} {Ks Ks' : List (List Int)} (hk : ∀ x, x ∈ Ks ↔ x ∈ Ks') (h : MAu n sp sr fi sf sc st Ks) : MAu n sp sr fi sf sc st Ks' := by
  have e : ∀ p, res Ks p = res Ks' p := fun p => funext fun w => propext (hk _)
  have e0 : Ks = [] ↔ Ks' = [] := by
    rw [List.eq_nil_iff_forall_not_mem, List.eq_nil_iff_forall_not_mem]
    simp only [hk]
  rcases h with ⟨a1, a2⟩ | ⟨a1, RL, SL, b1, b2, b3, b4, b5, b6, ⟨s0, b7, b8⟩, b9⟩
  · exact Or.inl ⟨e0.mp a1, a2⟩
  · exact Or.inr ⟨fun z => a1 (e0.mpr z), RL, SL, b1.ext hk, b2, b3, b4, b5, b6, ⟨s0, b7, by rw [← e]; exact b8⟩, b9⟩
/-- the automaton is made when every prefix has its state -/
theorem FI.mat {w : Mem} {m : Nat} {Ks : List (List Int)} {PL : List (Nat × List Int)} {Dn Dp : Nat → Prop} {RL : List (List Int → Prop)} {SL : List (Nat × Int × Nat)} {C Ps : List Nat} (h : FI w m Ks PL Dn Dp RL SL C Ps) (hL : HPL Ks PL) (h4 : PL.length ≤ 400) (hD : ∀ (a : Nat) A, PL[a]? = some A → Dn a) : MAt w m Ks ∧ Cls Ks RL := by
  have bd := h.bd
  obtain ⟨⟨f1, f2, f3, f4⟩, ⟨f5, f6⟩, f7, f8, f9, f10, f11, f12⟩ := h
  have hc : Cls Ks RL := by
    refine ⟨f1, fun R => ⟨fun z => ?_, fun ⟨p, hp, e⟩ => ?_⟩⟩
    · obtain ⟨p, P, p1, p2⟩ := f8 R z
      exact ⟨P.2, hL.pre p1, p2⟩
    · obtain ⟨P, q1, q2⟩ := List.mem_map.mp ((hL.2 p).mpr hp)
      obtain ⟨i, hi, e2⟩ := List.mem_iff_getElem.mp q1
      have hi' : PL[i]? = some P := by rw [List.getElem?_eq_getElem hi, e2]
      obtain ⟨t, -, t2⟩ := f9 i P (hD i P hi') hi'
      rw [e, ← q2]
      exact List.mem_of_getElem? t2
  refine ⟨?_, hc⟩
  by_cases hK : Ks = []
  · have hP : PL = [] := by
      rw [List.eq_nil_iff_forall_not_mem]
      intro P hP
      obtain ⟨i, hi, e2⟩ := List.mem_iff_getElem.mp hP
      obtain ⟨k, hk, -⟩ := hL.pre (show PL[i]? = some P by rw [List.getElem?_eq_getElem hi, e2])
      rw [hK] at hk
      simp at hk
    have hR : RL.length = 0 := by rw [hP] at bd; simpa using bd
    have hC : C = [] := by
      rw [List.eq_nil_iff_forall_not_mem]
      intro q hq
      obtain ⟨Q, p, P, c, q1, -⟩ := f10.2.2 q hq
      rw [hP] at q1
      simp at q1
    have hS : SL.length = 0 := by rw [← f10.2.1, hC]; rfl
    exact Or.inl ⟨hK, by rw [f5, hR]; rfl, by rw [f6.1, hS]; rfl⟩
  · refine Or.inr ⟨hK, RL, SL, hc, f5, by omega, f6.1, f6.2.1, f2, ?_, f7, fun j q hq => ?_, f3⟩
    · obtain ⟨k, hk⟩ := List.exists_mem_of_ne_nil _ hK
      obtain ⟨P, q1, q2⟩ := List.mem_map.mp ((hL.2 []).mpr ⟨k, hk, List.nil_prefix⟩)
      obtain ⟨i, hi, e2⟩ := List.mem_iff_getElem.mp q1
      have hi' : PL[i]? = some P := by rw [List.getElem?_eq_getElem hi, e2]
      exact f12 i P (hD i P hi') hi' q2
    · obtain ⟨⟨a1, -⟩, ⟨a2, a3, a4⟩, ⟨a5, -⟩⟩ := f6.2.2 j q hq
      exact ⟨a1, a2, a5, a3, a4⟩
def Dk (PL : List (Nat × List Int)) (n k a : Nat) : Prop := ∃ A : Nat × List Int, PL[a]? = some A ∧ (n + 1 ≤ A.2.length ∨ (A.2.length = n ∧ a < k))
theorem c_mfreeze (l : Launch) (u : Mem) {m N : Nat} {i : Int} {tp fd : List Int} {M : Nat → List KV} {ch : Nat → Int} {VL : List VS} {Ks : List (List Int)} {T : List Int} {Os : List (List Int)} (h : MS u m N tp fd M ch VL Ks T Os) (ri : rng i) (h40 : ∀ k, k < 3 → (M k).length ≤ 40) : Mt_ l yX13_freeze cX13_freeze 5 (some .int) 6 0 0 [aR m, aI i] u (qI fun r v => (¬ (0 ≤ i ∧ i < VL.length) ∧ r = 0 ∧ qM m N u 1 tp fd M ch VL Ks T Os v) ∨ (∃ vs, 0 ≤ i ∧ VL[i.toNat]? = some vs ∧ ∀ Ks', (∀ s, s ∈ Ks' ↔ vs.2.1 s ∧ ∃ p ∈ M vs.1, p.1 = s) → qM m N u 0 tp fd M ch VL Ks' T Os v ∧ ∃ Rs, Cls Ks' Rs ∧ r = (nums 0 Rs : Nat))) := by
  have hm := h.1
  refine Mt_of (by decide) (Nat.le_of_ble_eq_true rfl) (fun X ho hX hN hI => ?_)
  subst hX
  show Z X 0 [some (aR m), some (aI i), none, none, none] [] u 0 0
  refine z_aload_n ho dX13_freeze_0 rfl ?_
  refine z_iload_n ho dX13_freeze_1 rfl ?_
  refine kX13_122 ho hN (c_isView _ _ hm h.2.2.2.2.1.1 h.2.2.2.2.1.2.1 ri) dX13_freeze_2 hm.1 (Nat.le_of_ble_eq_true rfl) (Nat.le_of_ble_eq_true rfl) (Nat.le_of_ble_eq_true rfl) (Nat.le_of_ble_eq_true rfl) (fun x2 u2 h2 => ?_)
  obtain ⟨rfl, hs⟩ := h2
  refine z_if_ne (tgt := 14) ho dX13_freeze_5 (by decide) (by rcases hs with ⟨z, -⟩ | ⟨z, -⟩ <;> rw [z] <;> unfold rng <;> omega) (fun c5 => ?_) (fun c5 => ?_)
  · have hin := (hs.resolve_right (fun z => c5 z.1)).2
    have hvs : VL[i.toNat]? = some VL[i.toNat] := List.getElem?_eq_getElem (by omega)
    generalize VL[i.toNat] = vs at hvs
    have ei : (i.toNat : Int) = i := Int.toNat_of_nonneg hin.1
    generalize i.toNat = j at hvs ei
    subst ei
    have v3 := (h.2.2.2.2.1.2.2 _ vs hvs).1
    have l40 := h40 vs.1 v3
    have c1 : Cg m u (wI_ (wI_ (wI_ (wI_ (wI_ u m 0 0) m 22 0) m 26 0) m 27 0) m 28 (-1)) [0, 22, 26, 27, 28] [] := (((((Cg.rf m u _ _).f 0 _ (by decide)).f 22 _ (by decide)).f 26 _ (by decide)).f 27 _ (by decide)).f 28 _ (by decide)
    have i0 : iv_ (wI_ (wI_ (wI_ (wI_ (wI_ u m 0 0) m 22 0) m 26 0) m 27 0) m 28 (-1)) m 0 = 0 := by simp [iv_wI]
    have i22 : iv_ (wI_ (wI_ (wI_ (wI_ (wI_ u m 0 0) m 22 0) m 26 0) m 27 0) m 28 (-1)) m 22 = 0 := by simp [iv_wI]
    have i26 : iv_ (wI_ (wI_ (wI_ (wI_ (wI_ u m 0 0) m 22 0) m 26 0) m 27 0) m 28 (-1)) m 26 = 0 := by simp [iv_wI]
    have i27 : iv_ (wI_ (wI_ (wI_ (wI_ (wI_ u m 0 0) m 22 0) m 26 0) m 27 0) m 28 (-1)) m 27 = 0 := by simp [iv_wI]
    refine z_aload_n ho dX13_freeze_14 rfl ?_
    refine z_iconst ho dX13_freeze_15 ?_
    refine pX13_99 ho dX13_freeze_16 hm.1  ?_
    refine z_aload_n ho dX13_freeze_19 rfl ?_
    refine z_iconst ho dX13_freeze_20 ?_
    refine pX13_193 ho dX13_freeze_21 hm.1  ?_
    refine z_aload_n ho dX13_freeze_24 rfl ?_
    refine z_iconst ho dX13_freeze_25 ?_
    refine pX13_196 ho dX13_freeze_26 hm.1  ?_
    refine z_aload_n ho dX13_freeze_29 rfl ?_
    refine z_iconst ho dX13_freeze_30 ?_
    refine pX13_199 ho dX13_freeze_31 hm.1  ?_
    refine z_aload_n ho dX13_freeze_34 rfl ?_
    refine z_iconst ho dX13_freeze_35 ?_
    refine pX13_202 ho dX13_freeze_36 hm.1  ?_
    generalize wI_ (wI_ (wI_ (wI_ (wI_ u m 0 0) m 22 0) m 26 0) m 27 0) m 28 (-1) = w0 at *
    have h39 : MF w0 m ∧ MV w0 m VL ∧ MM w0 m M ch := ⟨hm.im c1.1, h.2.2.2.2.1.cg c1 (by decide) (by decide), h.2.2.2.1.cg c1 (by decide)⟩
    obtain ⟨Ks0, hKs0⟩ : ∃ Ks0 : List (List Int), ∀ s, s ∈ Ks0 ↔ vs.2.1 s ∧ ∃ p ∈ M vs.1, p.1 = s := by
      refine ⟨((M vs.1).filter (fun p => @decide (vs.2.1 p.1) (Classical.propDecidable _))).map Prod.fst, fun s => ?_⟩
      rw [List.mem_map]
      constructor
      · rintro ⟨p, hp, rfl⟩
        obtain ⟨p1, p2⟩ := List.mem_filter.mp hp
        exact ⟨@of_decide_eq_true _ (Classical.propDecidable _) p2, p, p1, rfl⟩
      · rintro ⟨a, p, hp, rfl⟩
        exact ⟨p, List.mem_filter.mpr ⟨hp, @decide_eq_true _ (Classical.propDecidable _) a⟩, rfl⟩
    have ph2 : ∀ (PL : List (Nat × List Int)), HPL Ks0 PL → PL.length ≤ 400 → ∀ (d : Nat) (w : Mem) (o4 : Option AV), d ≤ 9 → Cg m u w [0, 22, 26, 27, 28] [19, 20, 21, 22, 23, 24, 25] → iv_ w m 0 = 0 → PrA w m (M vs.1) (64 * (vs.1 : Int)) PL → (∃ RL SL C Ps, FI w m Ks0 PL (fun a => ∃ A : Nat × List Int, PL[a]? = some A ∧ d ≤ A.2.length) (fun a => ∃ A : Nat × List Int, PL[a]? = some A ∧ d ≤ A.2.length) RL SL C Ps) → Z X 86 [some (aR m), some (aI (j : Int)), some (aI (vs.1 : Int)), some (aI ((d : Int) - 1)), o4] [] w 0 0 := by
      intro PL hL p400 d
      induction d with
      | zero =>
        intro w o4 hd hC hw0 hP hF
        obtain ⟨RL, SL, C, Ps, hF⟩ := hF
        have hmw := hm.im hC.1
        have bd := hF.bd
        have e26 := hF.2.1.1
        obtain ⟨mat, cls⟩ := hF.mat hL p400 (fun a A ha => ⟨A, ha, by omega⟩)
        refine z_iload_n ho dX13_freeze_86 rfl ?_
        refine z_if_lt (tgt := 132) ho dX13_freeze_87 (by decide) (by unfold rng; omega) (fun c87 => ?_) (fun c87 => ?_)
        · 
          refine z_aload_n ho dX13_freeze_132 rfl ?_
          refine gX13_196 ho dX13_freeze_133 hmw.1 ?_
          refine r_I ho dX13_freeze_136 (Nat.le_of_ble_eq_true rfl) (Nat.le_of_ble_eq_true rfl) ?_
          refine Or.inr ⟨vs, by omega, hvs, fun Ks' hK' => ?_⟩
          have hk : ∀ x, x ∈ Ks0 ↔ x ∈ Ks' := fun x => by rw [hKs0, hK']
          obtain ⟨h1, h2, h3, h4, h5, h6, h7, h8, h9⟩ := h
          exact ⟨⟨hC.1, hw0, hmw, h2.cg hC (by decide) (by decide), h3.cg hC (by decide) (by decide), h4.cg hC (by decide), h5.cg hC (by decide) (by decide), h6.cg hC (by decide), MAu.ext hk mat, h8.cg hC (by decide) (by decide), h9⟩, RL, cls.ext hk, by rw [nums0]; exact e26⟩
        · omega
      | succ d ih =>
        intro w o4 hd hC hw0 hP hF
        have inn : ∀ (e k : Nat) (w : Mem), e + k = PL.length → Cg m u w [0, 22, 26, 27, 28] [19, 20, 21, 22, 23, 24, 25] → iv_ w m 0 = 0 → PrA w m (M vs.1) (64 * (vs.1 : Int)) PL → (∃ RL SL C Ps, FI w m Ks0 PL (Dk PL d k) (Dk PL d k) RL SL C Ps) → Z X 93 [some (aR m), some (aI (j : Int)), some (aI (vs.1 : Int)), some (aI (d : Int)), some (aI (k : Int))] [] w 0 0 := by
          intro e
          induction e with
          | zero =>
            intro k w hk hC hw0 hP hF
            have hmw := hm.im hC.1
            have q22 := hP.1
            refine z_iload ho dX13_freeze_93 rfl ?_
            refine z_aload_n ho dX13_freeze_95 rfl ?_
            refine gX13_193 ho dX13_freeze_96 hmw.1 ?_
            refine z_icmp_ge (tgt := 126) ho dX13_freeze_99 (by decide) (by unfold rng; omega) (by rw [q22]; unfold rng; omega) (fun c99 => ?_) (fun c99 => ?_)
            · 
              refine z_iinc ho dX13_freeze_126 rfl rfl ?_
              refine z_goto (tgt := 86) ho dX13_freeze_129 (by decide) ?_
              refine ih w _ (by omega) hC hw0 hP ?_
              have : (fun a => ∃ A : Nat × List Int, PL[a]? = some A ∧ d ≤ A.2.length) = Dk PL d k := by
                funext a
                refine propext ⟨fun ⟨A, a1, a2⟩ => ⟨A, a1, ?_⟩, fun ⟨A, a1, a2⟩ => ⟨A, a1, by omega⟩⟩
                have := (List.getElem?_eq_some_iff.mp a1).1
                omega
              rw [this]
              exact hF
            · omega
          | succ e ihe =>
            intro k w hk hC hw0 hP hF
            have hmw := hm.im hC.1
            have q22 := hP.1
            have hMw := h.2.2.2.1.cg hC (by decide)
            have hVw := h.2.2.2.2.1.cg hC (by decide) (by decide)
            have hkq : PL[k]? = some PL[k] := List.getElem?_eq_getElem (by omega)
            generalize PL[k] = P at hkq
            obtain ⟨b1, b2, kvp, b3, b4⟩ := hP.2.2 k P hkq
            have lp := b4.length_le
            have l8 := (hMw.kt hmw v3 b3).2.2.2.1
            refine z_iload ho dX13_freeze_93 rfl ?_
            refine z_aload_n ho dX13_freeze_95 rfl ?_
            refine gX13_193 ho dX13_freeze_96 hmw.1 ?_
            refine z_icmp_ge (tgt := 126) ho dX13_freeze_99 (by decide) (by unfold rng; omega) (by rw [q22]; unfold rng; omega) (fun c99 => ?_) (fun c99 => ?_)
            · omega
            · 
              refine z_aload_n ho dX13_freeze_102 rfl ?_
              refine gX13_72 ho dX13_freeze_103 hmw.1 (mget hmw.r24 ?_)
              refine z_iload ho dX13_freeze_106 rfl ?_
              refine z_iald ho dX13_freeze_108 hmw.k20 (by omega) (hmw.t20 (by omega)) ?_
              refine z_iload_n ho dX13_freeze_109 rfl ?_
              refine z_icmp_ne (tgt := 120) ho dX13_freeze_110 (by decide) (by rw [b2]; unfold rng; omega) (by unfold rng; omega) (fun c110 => ?_) (fun c110 => ?_)
              · rw [b2] at c110
                refine z_iinc ho dX13_freeze_120 rfl rfl ?_
                refine z_goto (tgt := 93) ho dX13_freeze_123 (by decide) ?_
                refine ihe (k + 1) w (by omega) hC hw0 hP ?_
                have : Dk PL d (k + 1) = Dk PL d k := by
                  funext a
                  refine propext ⟨fun ⟨A, a1, a2⟩ => ⟨A, a1, ?_⟩, fun ⟨A, a1, a2⟩ => ⟨A, a1, by omega⟩⟩
                  rcases a2 with z | ⟨z1, z2⟩
                  · exact Or.inl z
                  · rcases lt_or_eq' z2 with y | y
                    · exact Or.inr ⟨z1, y⟩
                    · rw [y, hkq] at a1
                      cases a1
                      omega
                rw [this]
                exact hF
              · rw [b2] at c110
                obtain ⟨RL, SL, C, Ps, hF⟩ := hF
                have hnp : ¬ Dk PL d k k := fun ⟨A, a1, a2⟩ => by
                  rw [hkq] at a1
                  cases a1
                  omega
                refine z_aload_n ho dX13_freeze_113 rfl ?_
                refine z_iload_n ho dX13_freeze_114 rfl ?_
                refine z_iload ho dX13_freeze_115 rfl ?_
                refine kX13_208 ho hN (c_mstate _ _ hmw hVw hMw hvs hP hkq hKs0 hL hF hnp (fun q hq => by obtain ⟨Q, c, q1, q2⟩ := hq; exact ⟨Q, q1, Or.inl (by rw [q2, List.length_append]; simp; omega)⟩)) dX13_freeze_117 hmw.1 (Nat.le_of_ble_eq_true rfl) (Nat.le_of_ble_eq_true rfl) (Nat.le_of_ble_eq_true rfl) (Nat.le_of_ble_eq_true rfl) (fun u117 h117 => ?_)
                obtain ⟨hC2, hF2⟩ := h117
                refine z_iinc ho dX13_freeze_120 rfl rfl ?_
                refine z_goto (tgt := 93) ho dX13_freeze_123 (by decide) ?_
                refine ihe (k + 1) _ (by omega) (hC.tr (hC2.mono (by decide) (by decide))) (by rw [hC2.2.1 0 (by decide)]; exact hw0) (hP.cg hC2 (by decide) (by decide)) ?_
                have : (fun a => Dk PL d k a ∨ a = k) = Dk PL d (k + 1) := by
                  funext a
                  refine propext ⟨fun z => ?_, fun ⟨A, a1, a2⟩ => ?_⟩
                  · rcases z with ⟨A, a1, a2⟩ | z
                    · exact ⟨A, a1, by omega⟩
                    · exact ⟨P, by rw [z]; exact hkq, Or.inr ⟨by omega, by omega⟩⟩
                  · rcases a2 with z | ⟨z1, z2⟩
                    · exact Or.inl ⟨A, a1, Or.inl z⟩
                    · rcases lt_or_eq' z2 with y | y
                      · exact Or.inl ⟨A, a1, Or.inr ⟨z1, y⟩⟩
                      · exact Or.inr y
                rw [this] at hF2
                exact hF2
        refine z_iload_n ho dX13_freeze_86 rfl ?_
        refine z_if_lt (tgt := 132) ho dX13_freeze_87 (by decide) (by unfold rng; omega) (fun c87 => ?_) (fun c87 => ?_)
        · omega
        · 
          refine z_iconst ho dX13_freeze_90 ?_
          refine z_istore ho dX13_freeze_91 (Nat.le_of_ble_eq_true rfl) rfl ?_
          have := inn PL.length 0 w rfl hC hw0 hP (by
            have : (fun a => ∃ A : Nat × List Int, PL[a]? = some A ∧ d + 1 ≤ A.2.length) = Dk PL d 0 := by
              funext a
              exact propext ⟨fun ⟨A, a1, a2⟩ => ⟨A, a1, Or.inl a2⟩, fun ⟨A, a1, a2⟩ => ⟨A, a1, by omega⟩⟩
            rw [this] at hF
            exact hF)
          rw [show (((d + 1 : Nat) : Int) - 1) = (d : Int) by omega]
          exact this
    have ph1 : ∀ (d k : Nat) (w : Mem) (PL : List (Nat × List Int)), d + k = (M vs.1).length → Cg m w0 w [22] [19, 20] → PrA w m (M vs.1) (64 * (vs.1 : Int)) PL → (PL.map Prod.snd).Nodup → (∀ s, s ∈ PL.map Prod.snd ↔ ∃ (k' : Nat) (kv : KV), k' < k ∧ (M vs.1)[k']? = some kv ∧ vs.2.1 kv.1 ∧ s <+: kv.1) → PL.length ≤ 9 * k → Z X 47 [some (aR m), some (aI (j : Int)), some (aI (vs.1 : Int)), some (aI (k : Int)), none] [] w 0 0 := by
      intro d
      induction d with
      | zero =>
        intro k w PL hk hC hP hnd hme hpl
        have hmw := h39.1.im hC.1
        have hMw := h39.2.2.cg hC (by decide)
        obtain ⟨g1, g2, g3, -⟩ := hMw vs.1 v3
        have hL : HPL Ks0 PL := by
          refine ⟨hnd, fun s => ?_⟩
          rw [hme s]
          constructor
          · rintro ⟨k', kv, z1, z2, z3, z4⟩
            exact ⟨kv.1, (hKs0 _).mpr ⟨z3, kv, List.mem_of_getElem? z2, rfl⟩, z4⟩
          · rintro ⟨t, z1, z2⟩
            obtain ⟨y1, kv, y2, y3⟩ := (hKs0 t).mp z1
            obtain ⟨k', hk', e⟩ := List.mem_iff_getElem.mp y2
            exact ⟨k', kv, by omega, by rw [List.getElem?_eq_getElem hk', e], by rw [y3]; exact y1, by rw [y3]; exact z2⟩
        refine z_iload_n ho dX13_freeze_47 rfl ?_
        refine z_aload_n ho dX13_freeze_48 rfl ?_
        refine gX13_13 ho dX13_freeze_49 hmw.1 (mget hmw.r3 ?_)
        refine z_iload_n ho dX13_freeze_52 rfl ?_
        refine z_iald ho dX13_freeze_53 hmw.k2 (by omega) (hmw.t2 (by omega)) ?_
        refine z_icmp_ge (tgt := 83) ho dX13_freeze_54 (by decide) (by unfold rng; omega) (by rw [g1]; unfold rng; omega) (fun c54 => ?_) (fun c54 => ?_)
        · 
          refine z_bipush ho dX13_freeze_83 rfl ?_
          refine z_istore_n ho dX13_freeze_85 (Nat.le_of_ble_eq_true rfl) rfl ?_
          refine ph2 PL hL hP.2.1 9 w none (by omega) ((c1.mono (by decide) (by decide)).tr (hC.mono (by decide) (by decide))) (by rw [hC.2.1 0 (by decide)]; exact i0) hP ⟨[], [], [], [], ?_⟩
          have no : ∀ (a : Nat) (A : Nat × List Int), PL[a]? = some A → A.2.length ≤ 8 := fun a A ha => by
            obtain ⟨b1, b2, kvp, b3, b4⟩ := hP.2.2 a A ha
            have lp := b4.length_le
            have l8 := (hMw.kt hmw v3 b3).2.2.2.1
            omega
          have ng : ∀ (a : Nat), ¬ ∃ A : Nat × List Int, PL[a]? = some A ∧ 9 ≤ A.2.length := fun a ⟨A, a1, a2⟩ => by have := no a A a1; omega
          refine ⟨⟨List.nodup_nil, List.nodup_nil, fun s c t => ⟨fun z => by simp at z, fun ⟨R, z, _⟩ => by simp at z⟩, fun R z => by simp at z⟩, ⟨by rw [hC.2.1 26 (by decide)]; exact i26, by rw [hC.2.1 27 (by decide)]; exact i27, by decide, fun a q z => by simp at z⟩, fun a R z => by simp at z, fun R z => by simp at z, fun a A z => absurd z (ng a), ⟨List.nodup_nil, rfl, fun q z => by simp at z⟩, ⟨List.nodup_nil, rfl, fun q z => by simp at z⟩, fun a A z => absurd z (ng a)⟩
        · omega
      | succ d ih =>
        intro k w PL hk hC hP hnd hme hpl
        have hmw := h39.1.im hC.1
        have hMw := h39.2.2.cg hC (by decide)
        have hVw := h39.2.1.cg hC (by decide) (by decide)
        obtain ⟨g1, g2, g3, -⟩ := hMw vs.1 v3
        have hkv : (M vs.1)[k]? = some (M vs.1)[k] := List.getElem?_eq_getElem (by omega)
        generalize (M vs.1)[k] = kv at hkv
        refine z_iload_n ho dX13_freeze_47 rfl ?_
        refine z_aload_n ho dX13_freeze_48 rfl ?_
        refine gX13_13 ho dX13_freeze_49 hmw.1 (mget hmw.r3 ?_)
        refine z_iload_n ho dX13_freeze_52 rfl ?_
        refine z_iald ho dX13_freeze_53 hmw.k2 (by omega) (hmw.t2 (by omega)) ?_
        refine z_icmp_ge (tgt := 83) ho dX13_freeze_54 (by decide) (by unfold rng; omega) (by rw [g1]; unfold rng; omega) (fun c54 => ?_) (fun c54 => ?_)
        · omega
        · 
          refine z_aload_n ho dX13_freeze_57 rfl ?_
          refine z_iload_n ho dX13_freeze_58 rfl ?_
          refine z_iload_n ho dX13_freeze_59 rfl ?_
          refine kX13_143 ho hN (c_mhas _ _ hmw hVw hMw hvs hkv) dX13_freeze_60 hmw.1 (Nat.le_of_ble_eq_true rfl) (Nat.le_of_ble_eq_true rfl) (Nat.le_of_ble_eq_true rfl) (Nat.le_of_ble_eq_true rfl) (fun x60 u60 h60 => ?_)
          obtain ⟨rfl, hh⟩ := h60
          refine z_if_eq (tgt := 77) ho dX13_freeze_63 (by decide) (by rcases hh with ⟨z, -⟩ | ⟨z, -⟩ <;> rw [z] <;> unfold rng <;> omega) (fun c63 => ?_) (fun c63 => ?_)
          · have hno := (hh.resolve_left (fun y => by omega)).2
            refine z_iinc ho dX13_freeze_77 rfl rfl ?_
            refine z_goto (tgt := 47) ho dX13_freeze_80 (by decide) ?_
            refine ih (k + 1) w PL (by omega) hC hP hnd (fun s => ?_) (by omega)
            rw [hme s]
            constructor
            · rintro ⟨k', kv', z1, z2⟩
              exact ⟨k', kv', by omega, z2⟩
            · rintro ⟨k', kv', z1, z2, z3, z4⟩
              rcases lt_or_eq' z1 with y | y
              · exact ⟨k', kv', y, z2, z3, z4⟩
              · rw [y, hkv] at z2
                cases z2
                exact absurd z3 hno
          · have hyes := (hh.resolve_right (fun y => c63 y.1)).2
            refine z_aload_n ho dX13_freeze_66 rfl ?_
            refine z_iload_n ho dX13_freeze_67 rfl ?_
            refine z_bipush ho dX13_freeze_68 rfl ?_
            refine z_iload_n ho dX13_freeze_70 rfl ?_
            refine z_imul ho dX13_freeze_71 ?_
            refine z_iload_n ho dX13_freeze_72 rfl ?_
            refine z_iadd ho dX13_freeze_73 ?_
            refine kX13_205 ho hN (c_prefixesOf _ _ hmw hMw v3 hP hnd hkv (by omega)) dX13_freeze_74 hmw.1 (Nat.le_of_ble_eq_true rfl) (Nat.le_of_ble_eq_true rfl) (Nat.le_of_ble_eq_true rfl) (Nat.le_of_ble_eq_true rfl) (fun u74 h74 => ?_)
            obtain ⟨hC2, PL', k1, k2, k3, k4⟩ := h74
            refine z_iinc ho dX13_freeze_77 rfl rfl ?_
            refine z_goto (tgt := 47) ho dX13_freeze_80 (by decide) ?_
            refine ih (k + 1) _ PL' (by omega) (hC.tr hC2) k1 k2 (fun s => ?_) (by omega)
            rw [k3, hme s]
            constructor
            · rintro (⟨k', kv', z1, z2⟩ | z)
              · exact ⟨k', kv', by omega, z2⟩
              · exact ⟨k, kv, by omega, hkv, hyes, z⟩
            · rintro ⟨k', kv', z1, z2, z3, z4⟩
              rcases lt_or_eq' z1 with y | y
              · exact Or.inl ⟨k', kv', y, z2, z3, z4⟩
              · rw [y, hkv] at z2
                cases z2
                exact Or.inr z4
    have hmz := h39.1
    refine z_aload_n ho dX13_freeze_39 rfl ?_
    refine z_iload_n ho dX13_freeze_40 rfl ?_
    refine kX13_114 ho hN (c_mapOf _ _ h39.1 h39.2.1 hvs) dX13_freeze_41 hmz.1 (Nat.le_of_ble_eq_true rfl) (Nat.le_of_ble_eq_true rfl) (Nat.le_of_ble_eq_true rfl) (Nat.le_of_ble_eq_true rfl) (fun x41 u41 h41 => ?_)
    obtain ⟨rfl, rfl⟩ := h41
    refine z_istore_n ho dX13_freeze_44 (Nat.le_of_ble_eq_true rfl) rfl ?_
    refine z_iconst ho dX13_freeze_45 ?_
    refine z_istore_n ho dX13_freeze_46 (Nat.le_of_ble_eq_true rfl) rfl ?_
    exact ph1 (M vs.1).length 0 w0 [] rfl (Cg.rf m w0 _ _) ⟨i22, by decide, fun p q z => by simp at z⟩ List.nodup_nil (fun s => ⟨fun z => by simp at z, fun ⟨k', kv, z, _⟩ => by omega⟩) (by simp)
  · have hin := (hs.resolve_left (fun z => by omega)).2
    refine z_aload_n ho dX13_freeze_8 rfl ?_
    refine z_iconst ho dX13_freeze_9 ?_
    refine kX13_126 ho hN (c_raise _ _ hm) dX13_freeze_10 hm.1 (Nat.le_of_ble_eq_true rfl) (Nat.le_of_ble_eq_true rfl) (Nat.le_of_ble_eq_true rfl) (Nat.le_of_ble_eq_true rfl) (fun x10 u10 h10 => ?_)
    obtain ⟨rfl, rfl⟩ := h10
    refine r_I ho dX13_freeze_13 (Nat.le_of_ble_eq_true rfl) (Nat.le_of_ble_eq_true rfl) ?_
    exact Or.inl ⟨hin, rfl, qM_raise h⟩
