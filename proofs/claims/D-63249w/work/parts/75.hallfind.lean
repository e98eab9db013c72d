set_option maxRecDepth 100000
/-! ===== KeyHall.find ===== -/
def FindS (vs : VS) (how : Int) (tp : List Int) (L : List KV) (q : Option KV) : Prop := ((how = 0 ∨ how = 1) ∧ Nr (1 - vs.2.2.1) vs.2.1 (some tp) how L q) ∨ ((how = 2 ∨ how = 3) ∧ Nr vs.2.2.1 vs.2.1 (some tp) (how - 2) L q) ∨ (how = 4 ∧ Nr vs.2.2.1 vs.2.1 none 0 L q) ∨ (how = 5 ∧ Nr (1 - vs.2.2.1) vs.2.1 none 0 L q) ∨ (how = 6 ∧ Lgst vs.2.1 tp L q)
theorem c_hfind (l : Launch) (u : Mem) {x : Nat} {i how : Int} {tp fd : List Int} {M : Nat → List KV} {ch : Nat → Int} {VL : List VS} {Ks : List (List Int)} {T : List Int} {Os : List (List Int)} {vs : VS} {p : KV} (h : HS u x tp fd M ch VL Ks T Os) (h0 : 0 ≤ i) (hj : VL[i.toNat]? = some vs) (hf : FindS vs how tp (M vs.1) (some p)) :
    Mt_ l yX1_find cX1_find 5 (some .int) 1104 5 28 [aR x, aI i, aI how] u (qI fun r v => r = p.2 ∧ HS v x [] p.1 M ch VL Ks T Os ∧ MR x u v) := by
  have kx := h.2.1.1
  have g1 := h.1.1
  have hjl := (List.getElem?_eq_some_iff.mp hj).1
  have ei : (i.toNat : Int) = i := Int.toNat_of_nonneg h0
  have hh : 0 ≤ how ∧ how < 7 := by rcases hf with ⟨z, -⟩ | ⟨z, -⟩ | ⟨z, -⟩ | ⟨z, -⟩ | ⟨z, -⟩ <;> omega
  have rh : rng how := by unfold rng; omega
  refine Mt_of (by decide) (Nat.le_of_ble_eq_true rfl) (fun X ho hX hN hI => ?_)
  subst hX
  show Z X 0 [some (aR x), some (aI i), some (aI how), none, none] [] u 0 0
  refine z_wf (fun hw => ?_)
  refine z_aload_n ho dX1_find_0 rfl ?_
  refine z_iload_n ho dX1_find_1 rfl ?_
  refine kX1_91 ho hN (c_of_ _ _ h.2.1 h0 (by omega)) dX1_find_2 kx (by omega) (Nat.le_of_ble_eq_true rfl) (by omega) (by omega) (fun x2 u2 h2 => ?_)
  obtain ⟨rfl, rfl⟩ := h2
  refine z_astore_n ho dX1_find_5 (Nat.le_of_ble_eq_true rfl) rfl ?_
  refine z_iload_n ho dX1_find_6 rfl ?_
  refine z_if_lt (tgt := 20) ho dX1_find_7 (by decide) rh (fun c7 => ?_) (fun c7 => ?_)
  · omega
  · 
    refine z_iload_n ho dX1_find_10 rfl ?_
    refine z_bipush ho dX1_find_11 rfl ?_
    refine z_icmp_ge (tgt := 20) ho dX1_find_13 (by decide) rh (by unfold rng; omega) (fun c13 => ?_) (fun c13 => ?_)
    · omega
    · 
      refine z_iconst ho dX1_find_16 ?_
      refine z_goto (tgt := 21) ho dX1_find_17 (by decide) ?_
      refine kX1_76 ho hN (c_need _ _) dX1_find_21 (by omega) (Nat.le_of_ble_eq_true rfl) (by omega) (by omega) (fun u21 h21 => ?_)
      obtain rfl := h21
      refine z_aload_n ho dX1_find_24 rfl ?_
      refine kX1_95 ho hN (c_use _ _ h) dX1_find_25 kx (by omega) (Nat.le_of_ble_eq_true rfl) (by omega) (by omega) (fun x25 u25 h25 => ?_)
      obtain ⟨rfl, u2, u3, u4, u5, u6⟩ := h25
      refine z_wf (fun hw1 => ?_)
      obtain ⟨M1, S, hT1, hV1, hv1, hSl⟩ := h.useV hw hj u4 u5 u6
      rw [ei] at hv1
      have v2 := hv1.2.1
      have hka := hv1.2.2.1
      obtain ⟨lo, hi, hVw, -⟩ := hka
      have hky : KyO u25 (x + 28) (some tp) := Or.inr ⟨u2.1, by rw [u2.2.2]⟩
      have hky0 : KyO u25 0 none := Or.inl ⟨rfl, rfl⟩
      rcases hf with ⟨z, hNr⟩ | ⟨z, hNr⟩ | ⟨z, hNr⟩ | ⟨z, hNr⟩ | ⟨z, hNr⟩
      · 
        refine z_astore ho dX1_find_28 (Nat.le_of_ble_eq_true rfl) rfl ?_
        refine z_iload_n ho dX1_find_30 rfl ?_
        refine z_tswIn (tgt := 68) (off := 37) ho dX1_find_31 rh (by omega) (by omega) (by rcases z with z | z <;> rw [z] <;> rfl) (by decide) ?_
        refine z_aload_n ho dX1_find_68 rfl ?_
        refine z_aload_n ho dX1_find_69 rfl ?_
        refine z_aload ho dX1_find_70 rfl ?_
        refine z_iload_n ho dX1_find_72 rfl ?_
        refine z_iconst ho dX1_find_73 ?_
        refine z_icmp_ne (tgt := 81) ho dX1_find_74 (by decide) rh (by unfold rng; omega) (fun c74 => ?_) (fun c74 => ?_)
        · have e0 : how = 0 := by omega
          rw [show how = 0 by omega] at hNr
          refine z_iconst ho dX1_find_81 ?_
          refine kX1_170 ho hN (c_beforeP _ _ hw1 hT1 hv1 hSl hky (Or.inl rfl) hNr) dX1_find_82 hVw.1 (by omega) (Nat.le_of_ble_eq_true rfl) (by omega) (by omega) (fun x82 u82 h82 => ?_)
          obtain ⟨rfl, hr⟩ := h82
          obtain ⟨p', hp', m1, m2, m3⟩ := hr.resolve_left (fun z => by cases z.1)
          cases hp'
          have en := (hT1.2.1 vs.1 v2).1.en _ m1
          have hE := (hT1.2.1 vs.1 v2).2.2.2.2.2 _ m1
          refine kX1_174 ho hN (c_tell_ _ _ u3 en hE) dX1_find_85 u3.2.1.1 (by omega) (Nat.le_of_ble_eq_true rfl) (Nat.le_of_ble_eq_true rfl) (Nat.le_of_ble_eq_true rfl) (fun x85 u85 h85 => ?_)
          obtain ⟨g1, g2, g3, g4, g5⟩ := h85
          refine r_I ho dX1_find_88 (Nat.le_of_ble_eq_true rfl) (Nat.le_of_ble_eq_true rfl) ?_
          rw [m2] at g2
          exact ⟨by rw [g1]; exact m3, g2, M1.tr ⟨by omega, fun a q1 q2 => g5 a (by omega) (by omega)⟩⟩
        · 
          rw [show how = 1 by omega] at hNr
          refine z_iconst ho dX1_find_77 ?_
          refine z_goto (tgt := 82) ho dX1_find_78 (by decide) ?_
          refine kX1_170 ho hN (c_beforeP _ _ hw1 hT1 hv1 hSl hky (Or.inr rfl) hNr) dX1_find_82 hVw.1 (by omega) (Nat.le_of_ble_eq_true rfl) (by omega) (by omega) (fun x82 u82 h82 => ?_)
          obtain ⟨rfl, hr⟩ := h82
          obtain ⟨p', hp', m1, m2, m3⟩ := hr.resolve_left (fun z => by cases z.1)
          cases hp'
          have en := (hT1.2.1 vs.1 v2).1.en _ m1
          have hE := (hT1.2.1 vs.1 v2).2.2.2.2.2 _ m1
          refine kX1_174 ho hN (c_tell_ _ _ u3 en hE) dX1_find_85 u3.2.1.1 (by omega) (Nat.le_of_ble_eq_true rfl) (Nat.le_of_ble_eq_true rfl) (Nat.le_of_ble_eq_true rfl) (fun x85 u85 h85 => ?_)
          obtain ⟨g1, g2, g3, g4, g5⟩ := h85
          refine r_I ho dX1_find_88 (Nat.le_of_ble_eq_true rfl) (Nat.le_of_ble_eq_true rfl) ?_
          rw [m2] at g2
          exact ⟨by rw [g1]; exact m3, g2, M1.tr ⟨by omega, fun a q1 q2 => g5 a (by omega) (by omega)⟩⟩
      · 
        refine z_astore ho dX1_find_28 (Nat.le_of_ble_eq_true rfl) rfl ?_
        refine z_iload_n ho dX1_find_30 rfl ?_
        refine z_tswIn (tgt := 89) (off := 58) ho dX1_find_31 rh (by omega) (by omega) (by rcases z with z | z <;> rw [z] <;> rfl) (by decide) ?_
        refine z_aload_n ho dX1_find_89 rfl ?_
        refine z_aload_n ho dX1_find_90 rfl ?_
        refine z_aload ho dX1_find_91 rfl ?_
        refine z_iload_n ho dX1_find_93 rfl ?_
        refine z_iconst ho dX1_find_94 ?_
        refine z_icmp_ne (tgt := 102) ho dX1_find_95 (by decide) rh (by unfold rng; omega) (fun c95 => ?_) (fun c95 => ?_)
        · have e0 : how = 2 := by omega
          rw [show how - 2 = 0 by omega] at hNr
          refine z_iconst ho dX1_find_102 ?_
          refine kX1_178 ho hN (c_afterP _ _ hw1 hT1 hv1 hSl hky (Or.inl rfl) hNr) dX1_find_103 hVw.1 (by omega) (Nat.le_of_ble_eq_true rfl) (by omega) (by omega) (fun x103 u103 h103 => ?_)
          obtain ⟨rfl, hr⟩ := h103
          obtain ⟨p', hp', m1, m2, m3⟩ := hr.resolve_left (fun z => by cases z.1)
          cases hp'
          have en := (hT1.2.1 vs.1 v2).1.en _ m1
          have hE := (hT1.2.1 vs.1 v2).2.2.2.2.2 _ m1
          refine kX1_174 ho hN (c_tell_ _ _ u3 en hE) dX1_find_106 u3.2.1.1 (by omega) (Nat.le_of_ble_eq_true rfl) (Nat.le_of_ble_eq_true rfl) (Nat.le_of_ble_eq_true rfl) (fun x106 u106 h106 => ?_)
          obtain ⟨g1, g2, g3, g4, g5⟩ := h106
          refine r_I ho dX1_find_109 (Nat.le_of_ble_eq_true rfl) (Nat.le_of_ble_eq_true rfl) ?_
          rw [m2] at g2
          exact ⟨by rw [g1]; exact m3, g2, M1.tr ⟨by omega, fun a q1 q2 => g5 a (by omega) (by omega)⟩⟩
        · 
          rw [show how - 2 = 1 by omega] at hNr
          refine z_iconst ho dX1_find_98 ?_
          refine z_goto (tgt := 103) ho dX1_find_99 (by decide) ?_
          refine kX1_178 ho hN (c_afterP _ _ hw1 hT1 hv1 hSl hky (Or.inr rfl) hNr) dX1_find_103 hVw.1 (by omega) (Nat.le_of_ble_eq_true rfl) (by omega) (by omega) (fun x103 u103 h103 => ?_)
          obtain ⟨rfl, hr⟩ := h103
          obtain ⟨p', hp', m1, m2, m3⟩ := hr.resolve_left (fun z => by cases z.1)
          cases hp'
          have en := (hT1.2.1 vs.1 v2).1.en _ m1
          have hE := (hT1.2.1 vs.1 v2).2.2.2.2.2 _ m1
          refine kX1_174 ho hN (c_tell_ _ _ u3 en hE) dX1_find_106 u3.2.1.1 (by omega) (Nat.le_of_ble_eq_true rfl) (Nat.le_of_ble_eq_true rfl) (Nat.le_of_ble_eq_true rfl) (fun x106 u106 h106 => ?_)
          obtain ⟨g1, g2, g3, g4, g5⟩ := h106
          refine r_I ho dX1_find_109 (Nat.le_of_ble_eq_true rfl) (Nat.le_of_ble_eq_true rfl) ?_
          rw [m2] at g2
          exact ⟨by rw [g1]; exact m3, g2, M1.tr ⟨by omega, fun a q1 q2 => g5 a (by omega) (by omega)⟩⟩
      · 
        refine z_astore ho dX1_find_28 (Nat.le_of_ble_eq_true rfl) rfl ?_
        refine z_iload_n ho dX1_find_30 rfl ?_
        refine z_tswIn (tgt := 110) (off := 79) ho dX1_find_31 rh (by omega) (by omega) (by rw [z]; rfl) (by decide) ?_
        refine z_aload_n ho dX1_find_110 rfl ?_
        refine z_aload_n ho dX1_find_111 rfl ?_
        refine z_null ho dX1_find_112 ?_
        refine z_iconst ho dX1_find_113 ?_
        refine kX1_178 ho hN (c_afterP _ _ hw1 hT1 hv1 hSl hky0 (Or.inl rfl) hNr) dX1_find_114 hVw.1 (by omega) (Nat.le_of_ble_eq_true rfl) (by omega) (by omega) (fun x114 u114 h114 => ?_)
        obtain ⟨rfl, hr⟩ := h114
        obtain ⟨p', hp', m1, m2, m3⟩ := hr.resolve_left (fun z => by cases z.1)
        cases hp'
        have en := (hT1.2.1 vs.1 v2).1.en _ m1
        have hE := (hT1.2.1 vs.1 v2).2.2.2.2.2 _ m1
        refine kX1_174 ho hN (c_tell_ _ _ u3 en hE) dX1_find_117 u3.2.1.1 (by omega) (Nat.le_of_ble_eq_true rfl) (Nat.le_of_ble_eq_true rfl) (Nat.le_of_ble_eq_true rfl) (fun x117 u117 h117 => ?_)
        obtain ⟨g1, g2, g3, g4, g5⟩ := h117
        refine r_I ho dX1_find_120 (Nat.le_of_ble_eq_true rfl) (Nat.le_of_ble_eq_true rfl) ?_
        rw [m2] at g2
        exact ⟨by rw [g1]; exact m3, g2, M1.tr ⟨by omega, fun a q1 q2 => g5 a (by omega) (by omega)⟩⟩
      · 
        refine z_astore ho dX1_find_28 (Nat.le_of_ble_eq_true rfl) rfl ?_
        refine z_iload_n ho dX1_find_30 rfl ?_
        refine z_tswIn (tgt := 121) (off := 90) ho dX1_find_31 rh (by omega) (by omega) (by rw [z]; rfl) (by decide) ?_
        refine z_aload_n ho dX1_find_121 rfl ?_
        refine z_aload_n ho dX1_find_122 rfl ?_
        refine z_null ho dX1_find_123 ?_
        refine z_iconst ho dX1_find_124 ?_
        refine kX1_170 ho hN (c_beforeP _ _ hw1 hT1 hv1 hSl hky0 (Or.inl rfl) hNr) dX1_find_125 hVw.1 (by omega) (Nat.le_of_ble_eq_true rfl) (by omega) (by omega) (fun x125 u125 h125 => ?_)
        obtain ⟨rfl, hr⟩ := h125
        obtain ⟨p', hp', m1, m2, m3⟩ := hr.resolve_left (fun z => by cases z.1)
        cases hp'
        have en := (hT1.2.1 vs.1 v2).1.en _ m1
        have hE := (hT1.2.1 vs.1 v2).2.2.2.2.2 _ m1
        refine kX1_174 ho hN (c_tell_ _ _ u3 en hE) dX1_find_128 u3.2.1.1 (by omega) (Nat.le_of_ble_eq_true rfl) (Nat.le_of_ble_eq_true rfl) (Nat.le_of_ble_eq_true rfl) (fun x128 u128 h128 => ?_)
        obtain ⟨g1, g2, g3, g4, g5⟩ := h128
        refine r_I ho dX1_find_131 (Nat.le_of_ble_eq_true rfl) (Nat.le_of_ble_eq_true rfl) ?_
        rw [m2] at g2
        exact ⟨by rw [g1]; exact m3, g2, M1.tr ⟨by omega, fun a q1 q2 => g5 a (by omega) (by omega)⟩⟩
      · have s3 := u6 (x + 3) (by omega) (by omega) (by omega)
        have hb := c_beginning (La_ X) u25 u3 hj hT1 hV1 u2 hNr
        rw [s3.2.2.2, ei] at hb
        refine z_astore ho dX1_find_28 (Nat.le_of_ble_eq_true rfl) rfl ?_
        refine z_iload_n ho dX1_find_30 rfl ?_
        refine z_tswOut (tgt := 132) ho dX1_find_31 rh (Or.inr (by omega)) (by decide) ?_
        refine z_aload_n ho dX1_find_132 rfl ?_
        refine z_aload_n ho dX1_find_133 rfl ?_
        refine z_aload ho dX1_find_134 rfl ?_
        refine kX1_181 ho hN (hb) dX1_find_136 (by omega) (Nat.le_of_ble_eq_true rfl) (by omega) (by omega) (fun x136 u136 h136 => ?_)
        obtain ⟨b1, b2, b3, hr⟩ := h136
        have M2 := M1.tr b2
        have g2' := b1.1.1
        obtain ⟨p', hp', m1, m2, m3⟩ := hr.resolve_left (fun z => by cases z.1)
        cases hp'
        have en := (b3.2.1 vs.1 v2).1.en _ m1
        have hE := (b3.2.1 vs.1 v2).2.2.2.2.2 _ m1
        refine kX1_174 ho hN (c_tell_ _ _ b1 en hE) dX1_find_139 b1.2.1.1 (by omega) (Nat.le_of_ble_eq_true rfl) (Nat.le_of_ble_eq_true rfl) (Nat.le_of_ble_eq_true rfl) (fun x139 u139 h139 => ?_)
        obtain ⟨g1, g2, g3, g4, g5⟩ := h139
        refine r_I ho dX1_find_142 (Nat.le_of_ble_eq_true rfl) (Nat.le_of_ble_eq_true rfl) ?_
        rw [m2] at g2
        exact ⟨by rw [g1]; exact m3, g2, M2.tr ⟨by omega, fun a q1 q2 => g5 a (by omega) (by omega)⟩⟩
theorem t_hfind2 (l : Launch) (hst : l.stackTraces = false) (u : Mem) {x : Nat} {i how : Int} {tp fd : List Int} {M : Nat → List KV} {ch : Nat → Int} {VL : List VS} {Ks : List (List Int)} {T : List Int} {Os : List (List Int)} {vs : VS} (h : HS u x tp fd M ch VL Ks T Os) (h0 : 0 ≤ i) (hj : VL[i.toNat]? = some vs) (hf : FindS vs how tp (M vs.1) none) :
    Th_ l yX1_find cX1_find 5 (some .int) 1104 5 28 [aR x, aI i, aI how] u (qTh 22 x u [] fd M ch VL Ks T Os) := by
  have kx := h.2.1.1
  have g1 := h.1.1
  have hjl := (List.getElem?_eq_some_iff.mp hj).1
  have ei : (i.toNat : Int) = i := Int.toNat_of_nonneg h0
  have hh : 0 ≤ how ∧ how < 7 := by rcases hf with ⟨z, -⟩ | ⟨z, -⟩ | ⟨z, -⟩ | ⟨z, -⟩ | ⟨z, -⟩ <;> omega
  have rh : rng how := by unfold rng; omega
  refine Th_of (by decide) (Nat.le_of_ble_eq_true rfl) (fun X ho hT hX hN => ?_)
  subst hX
  show Z X 0 [some (aR x), some (aI i), some (aI how), none, none] [] u 0 0
  refine z_wf (fun hw => ?_)
  refine z_aload_n ho dX1_find_0 rfl ?_
  refine z_iload_n ho dX1_find_1 rfl ?_
  refine kX1_91 ho hN (c_of_ _ _ h.2.1 h0 (by omega)) dX1_find_2 kx (by omega) (Nat.le_of_ble_eq_true rfl) (by omega) (by omega) (fun x2 u2 h2 => ?_)
  obtain ⟨rfl, rfl⟩ := h2
  refine z_astore_n ho dX1_find_5 (Nat.le_of_ble_eq_true rfl) rfl ?_
  refine z_iload_n ho dX1_find_6 rfl ?_
  refine z_if_lt (tgt := 20) ho dX1_find_7 (by decide) rh (fun c7 => ?_) (fun c7 => ?_)
  · omega
  · 
    refine z_iload_n ho dX1_find_10 rfl ?_
    refine z_bipush ho dX1_find_11 rfl ?_
    refine z_icmp_ge (tgt := 20) ho dX1_find_13 (by decide) rh (by unfold rng; omega) (fun c13 => ?_) (fun c13 => ?_)
    · omega
    · 
      refine z_iconst ho dX1_find_16 ?_
      refine z_goto (tgt := 21) ho dX1_find_17 (by decide) ?_
      refine kX1_76 ho hN (c_need _ _) dX1_find_21 (by omega) (Nat.le_of_ble_eq_true rfl) (by omega) (by omega) (fun u21 h21 => ?_)
      obtain rfl := h21
      refine z_aload_n ho dX1_find_24 rfl ?_
      refine kX1_95 ho hN (c_use _ _ h) dX1_find_25 kx (by omega) (Nat.le_of_ble_eq_true rfl) (by omega) (by omega) (fun x25 u25 h25 => ?_)
      obtain ⟨rfl, u2, u3, u4, u5, u6⟩ := h25
      refine z_wf (fun hw1 => ?_)
      obtain ⟨M1, S, hT1, hV1, hv1, hSl⟩ := h.useV hw hj u4 u5 u6
      rw [ei] at hv1
      have v2 := hv1.2.1
      have hka := hv1.2.2.1
      obtain ⟨lo, hi, hVw, -⟩ := hka
      have hky : KyO u25 (x + 28) (some tp) := Or.inr ⟨u2.1, by rw [u2.2.2]⟩
      have hky0 : KyO u25 0 none := Or.inl ⟨rfl, rfl⟩
      rcases hf with ⟨z, hNr⟩ | ⟨z, hNr⟩ | ⟨z, hNr⟩ | ⟨z, hNr⟩ | ⟨z, hNr⟩
      · 
        refine z_astore ho dX1_find_28 (Nat.le_of_ble_eq_true rfl) rfl ?_
        refine z_iload_n ho dX1_find_30 rfl ?_
        refine z_tswIn (tgt := 68) (off := 37) ho dX1_find_31 rh (by omega) (by omega) (by rcases z with z | z <;> rw [z] <;> rfl) (by decide) ?_
        refine z_aload_n ho dX1_find_68 rfl ?_
        refine z_aload_n ho dX1_find_69 rfl ?_
        refine z_aload ho dX1_find_70 rfl ?_
        refine z_iload_n ho dX1_find_72 rfl ?_
        refine z_iconst ho dX1_find_73 ?_
        refine z_icmp_ne (tgt := 81) ho dX1_find_74 (by decide) rh (by unfold rng; omega) (fun c74 => ?_) (fun c74 => ?_)
        · have e0 : how = 0 := by omega
          rw [show how = 0 by omega] at hNr
          refine z_iconst ho dX1_find_81 ?_
          refine kX1_170 ho hN (c_beforeP _ _ hw1 hT1 hv1 hSl hky (Or.inl rfl) hNr) dX1_find_82 hVw.1 (by omega) (Nat.le_of_ble_eq_true rfl) (by omega) (by omega) (fun x82 u82 h82 => ?_)
          obtain ⟨rfl, hr⟩ := h82
          have hr0 : x82 = 0 := by
            rcases hr with z | ⟨p', hp', -⟩
            · exact z.2
            · cases hp'
          rw [hr0]
          refine z_wf (fun hwT => ?_)
          refine tX1_174 ho hT hN (t_tell _ hst _) dX1_find_85 u3.2.1.1 (by omega) (Nat.le_of_ble_eq_true rfl) (by omega) (by omega) (fun x85 u85 h85 => ?_)
          exact qTh_tr M1 (qTh_ex u3 hwT h85)
        · 
          rw [show how = 1 by omega] at hNr
          refine z_iconst ho dX1_find_77 ?_
          refine z_goto (tgt := 82) ho dX1_find_78 (by decide) ?_
          refine kX1_170 ho hN (c_beforeP _ _ hw1 hT1 hv1 hSl hky (Or.inr rfl) hNr) dX1_find_82 hVw.1 (by omega) (Nat.le_of_ble_eq_true rfl) (by omega) (by omega) (fun x82 u82 h82 => ?_)
          obtain ⟨rfl, hr⟩ := h82
          have hr0 : x82 = 0 := by
            rcases hr with z | ⟨p', hp', -⟩
            · exact z.2
            · cases hp'
          rw [hr0]
          refine z_wf (fun hwT => ?_)
          refine tX1_174 ho hT hN (t_tell _ hst _) dX1_find_85 u3.2.1.1 (by omega) (Nat.le_of_ble_eq_true rfl) (by omega) (by omega) (fun x85 u85 h85 => ?_)
          exact qTh_tr M1 (qTh_ex u3 hwT h85)
      · 
        refine z_astore ho dX1_find_28 (Nat.le_of_ble_eq_true rfl) rfl ?_
        refine z_iload_n ho dX1_find_30 rfl ?_
        refine z_tswIn (tgt := 89) (off := 58) ho dX1_find_31 rh (by omega) (by omega) (by rcases z with z | z <;> rw [z] <;> rfl) (by decide) ?_
        refine z_aload_n ho dX1_find_89 rfl ?_
        refine z_aload_n ho dX1_find_90 rfl ?_
        refine z_aload ho dX1_find_91 rfl ?_
        refine z_iload_n ho dX1_find_93 rfl ?_
        refine z_iconst ho dX1_find_94 ?_
        refine z_icmp_ne (tgt := 102) ho dX1_find_95 (by decide) rh (by unfold rng; omega) (fun c95 => ?_) (fun c95 => ?_)
        · have e0 : how = 2 := by omega
          rw [show how - 2 = 0 by omega] at hNr
          refine z_iconst ho dX1_find_102 ?_
          refine kX1_178 ho hN (c_afterP _ _ hw1 hT1 hv1 hSl hky (Or.inl rfl) hNr) dX1_find_103 hVw.1 (by omega) (Nat.le_of_ble_eq_true rfl) (by omega) (by omega) (fun x103 u103 h103 => ?_)
          obtain ⟨rfl, hr⟩ := h103
          have hr0 : x103 = 0 := by
            rcases hr with z | ⟨p', hp', -⟩
            · exact z.2
            · cases hp'
          rw [hr0]
          refine z_wf (fun hwT => ?_)
          refine tX1_174 ho hT hN (t_tell _ hst _) dX1_find_106 u3.2.1.1 (by omega) (Nat.le_of_ble_eq_true rfl) (by omega) (by omega) (fun x106 u106 h106 => ?_)
          exact qTh_tr M1 (qTh_ex u3 hwT h106)
        · 
          rw [show how - 2 = 1 by omega] at hNr
          refine z_iconst ho dX1_find_98 ?_
          refine z_goto (tgt := 103) ho dX1_find_99 (by decide) ?_
          refine kX1_178 ho hN (c_afterP _ _ hw1 hT1 hv1 hSl hky (Or.inr rfl) hNr) dX1_find_103 hVw.1 (by omega) (Nat.le_of_ble_eq_true rfl) (by omega) (by omega) (fun x103 u103 h103 => ?_)
          obtain ⟨rfl, hr⟩ := h103
          have hr0 : x103 = 0 := by
            rcases hr with z | ⟨p', hp', -⟩
            · exact z.2
            · cases hp'
          rw [hr0]
          refine z_wf (fun hwT => ?_)
          refine tX1_174 ho hT hN (t_tell _ hst _) dX1_find_106 u3.2.1.1 (by omega) (Nat.le_of_ble_eq_true rfl) (by omega) (by omega) (fun x106 u106 h106 => ?_)
          exact qTh_tr M1 (qTh_ex u3 hwT h106)
      · 
        refine z_astore ho dX1_find_28 (Nat.le_of_ble_eq_true rfl) rfl ?_
        refine z_iload_n ho dX1_find_30 rfl ?_
        refine z_tswIn (tgt := 110) (off := 79) ho dX1_find_31 rh (by omega) (by omega) (by rw [z]; rfl) (by decide) ?_
        refine z_aload_n ho dX1_find_110 rfl ?_
        refine z_aload_n ho dX1_find_111 rfl ?_
        refine z_null ho dX1_find_112 ?_
        refine z_iconst ho dX1_find_113 ?_
        refine kX1_178 ho hN (c_afterP _ _ hw1 hT1 hv1 hSl hky0 (Or.inl rfl) hNr) dX1_find_114 hVw.1 (by omega) (Nat.le_of_ble_eq_true rfl) (by omega) (by omega) (fun x114 u114 h114 => ?_)
        obtain ⟨rfl, hr⟩ := h114
        have hr0 : x114 = 0 := by
          rcases hr with z | ⟨p', hp', -⟩
          · exact z.2
          · cases hp'
        rw [hr0]
        refine z_wf (fun hwT => ?_)
        refine tX1_174 ho hT hN (t_tell _ hst _) dX1_find_117 u3.2.1.1 (by omega) (Nat.le_of_ble_eq_true rfl) (by omega) (by omega) (fun x117 u117 h117 => ?_)
        exact qTh_tr M1 (qTh_ex u3 hwT h117)
      · 
        refine z_astore ho dX1_find_28 (Nat.le_of_ble_eq_true rfl) rfl ?_
        refine z_iload_n ho dX1_find_30 rfl ?_
        refine z_tswIn (tgt := 121) (off := 90) ho dX1_find_31 rh (by omega) (by omega) (by rw [z]; rfl) (by decide) ?_
        refine z_aload_n ho dX1_find_121 rfl ?_
        refine z_aload_n ho dX1_find_122 rfl ?_
        refine z_null ho dX1_find_123 ?_
        refine z_iconst ho dX1_find_124 ?_
        refine kX1_170 ho hN (c_beforeP _ _ hw1 hT1 hv1 hSl hky0 (Or.inl rfl) hNr) dX1_find_125 hVw.1 (by omega) (Nat.le_of_ble_eq_true rfl) (by omega) (by omega) (fun x125 u125 h125 => ?_)
        obtain ⟨rfl, hr⟩ := h125
        have hr0 : x125 = 0 := by
          rcases hr with z | ⟨p', hp', -⟩
          · exact z.2
          · cases hp'
        rw [hr0]
        refine z_wf (fun hwT => ?_)
        refine tX1_174 ho hT hN (t_tell _ hst _) dX1_find_128 u3.2.1.1 (by omega) (Nat.le_of_ble_eq_true rfl) (by omega) (by omega) (fun x128 u128 h128 => ?_)
        exact qTh_tr M1 (qTh_ex u3 hwT h128)
      · have s3 := u6 (x + 3) (by omega) (by omega) (by omega)
        have hb := c_beginning (La_ X) u25 u3 hj hT1 hV1 u2 hNr
        rw [s3.2.2.2, ei] at hb
        refine z_astore ho dX1_find_28 (Nat.le_of_ble_eq_true rfl) rfl ?_
        refine z_iload_n ho dX1_find_30 rfl ?_
        refine z_tswOut (tgt := 132) ho dX1_find_31 rh (Or.inr (by omega)) (by decide) ?_
        refine z_aload_n ho dX1_find_132 rfl ?_
        refine z_aload_n ho dX1_find_133 rfl ?_
        refine z_aload ho dX1_find_134 rfl ?_
        refine kX1_181 ho hN (hb) dX1_find_136 (by omega) (Nat.le_of_ble_eq_true rfl) (by omega) (by omega) (fun x136 u136 h136 => ?_)
        obtain ⟨b1, b2, b3, hr⟩ := h136
        have M2 := M1.tr b2
        have g2' := b1.1.1
        have hr0 : x136 = 0 := by
          rcases hr with z | ⟨p', hp', -⟩
          · exact z.2
          · cases hp'
        rw [hr0]
        refine z_wf (fun hwT => ?_)
        refine tX1_174 ho hT hN (t_tell _ hst _) dX1_find_139 b1.2.1.1 (by omega) (Nat.le_of_ble_eq_true rfl) (by omega) (by omega) (fun x139 u139 h139 => ?_)
        exact qTh_tr M2 (qTh_ex b1 hwT h139)
theorem t_hfind1 (l : Launch) (hst : l.stackTraces = false) (u : Mem) {x : Nat} {i how : Int} {tp fd : List Int} {M : Nat → List KV} {ch : Nat → Int} {VL : List VS} {Ks : List (List Int)} {T : List Int} {Os : List (List Int)} (h : HS u x tp fd M ch VL Ks T Os) (ri : rng i) (rh : rng how) (hn : ¬ (0 ≤ i ∧ i < VL.length) ∨ ¬ (0 ≤ how ∧ how < 7)) :
    Th_ l yX1_find cX1_find 5 (some .int) 1104 5 28 [aR x, aI i, aI how] u (qTh 19 x u tp fd M ch VL Ks T Os) := by
  have kx := h.2.1.1
  refine Th_of (by decide) (Nat.le_of_ble_eq_true rfl) (fun X ho hT hX hN => ?_)
  subst hX
  show Z X 0 [some (aR x), some (aI i), some (aI how), none, none] [] u 0 0
  refine z_wf (fun hw => ?_)
  by_cases hi : 0 ≤ i ∧ i < VL.length
  · have t20 : Z X 20 [some (aR x), some (aI i), some (aI how), some (aR (rv_ u (x + 3) i)), none] [] u (0 + 1) (0 + 6) := by
      refine z_iconst ho dX1_find_20 ?_
      refine tX1_76 ho hT hN (t_need _ hst _) dX1_find_21 (by omega) (Nat.le_of_ble_eq_true rfl) (by omega) (by omega) (fun x21 u21 h21 => ?_)
      exact qTh_ex h hw h21
    refine z_aload_n ho dX1_find_0 rfl ?_
    refine z_iload_n ho dX1_find_1 rfl ?_
    refine kX1_91 ho hN (c_of_ _ _ h.2.1 hi.1 hi.2) dX1_find_2 kx (by omega) (Nat.le_of_ble_eq_true rfl) (by omega) (by omega) (fun x2 u2 h2 => ?_)
    obtain ⟨rfl, rfl⟩ := h2
    refine z_astore_n ho dX1_find_5 (Nat.le_of_ble_eq_true rfl) rfl ?_
    refine z_iload_n ho dX1_find_6 rfl ?_
    refine z_if_lt (tgt := 20) ho dX1_find_7 (by decide) rh (fun c7 => ?_) (fun c7 => ?_)
    · exact t20
    · 
      refine z_iload_n ho dX1_find_10 rfl ?_
      refine z_bipush ho dX1_find_11 rfl ?_
      refine z_icmp_ge (tgt := 20) ho dX1_find_13 (by decide) rh (by unfold rng; omega) (fun c13 => ?_) (fun c13 => ?_)
      · exact t20
      · omega
  · 
    refine z_aload_n ho dX1_find_0 rfl ?_
    refine z_iload_n ho dX1_find_1 rfl ?_
    refine tX1_91 ho hT hN (t_of_ _ hst _ h.2.1 ri hi) dX1_find_2 kx (Nat.le_of_ble_eq_true rfl) (Nat.le_of_ble_eq_true rfl) (Nat.le_of_ble_eq_true rfl) (Nat.le_of_ble_eq_true rfl) (fun x2 u2 h2 => ?_)
    exact qTh_ex h hw h2
