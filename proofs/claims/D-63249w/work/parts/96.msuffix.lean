set_option maxRecDepth 100000
/-! ===== KeyHallModel: begin, suffix, locate ===== -/
/-- how many of the first n suffixes are less than suffix i -/
noncomputable def lessN (T : List Int) (i n : Nat) : Nat := ((List.range n).filter (fun j => @decide (T.drop j < T.drop i) (Classical.propDecidable _))).length
theorem lessN_succ (T : List Int) (i n : Nat) : (T.drop n < T.drop i → lessN T i (n + 1) = lessN T i n + 1) ∧ (¬ T.drop n < T.drop i → lessN T i (n + 1) = lessN T i n) := by
  unfold lessN
  rw [List.range_succ, List.filter_append, List.length_append]
  constructor
  · intro h; simp [h]
  · intro h; simp [h]
def SLs (T : List Int) (SL : List Nat) : Prop := SL.Perm (List.range T.length) ∧ SL.Pairwise (fun x y => T.drop x < T.drop y)
theorem SLs.less {T : List Int} {SL : List Nat} (h : SLs T SL) {q x : Nat} (hx : SL[q]? = some x) : lessN T x T.length = q := by
  unfold lessN
  rw [← (h.1.filter _).length_eq]
  have hs := take_drop_cons hx
  have hp := h.2
  rw [hs] at hp ⊢
  obtain ⟨p1, p2, p3⟩ := List.pairwise_append.mp hp
  obtain ⟨p4, -⟩ := List.pairwise_cons.mp p2
  have hq := (List.getElem?_eq_some_iff.mp hx).1
  rw [List.filter_append, List.length_append, List.filter_eq_self.mpr (fun a ha => by simpa using p3 a ha x (by simp)), List.filter_eq_nil_iff.mpr (fun a ha => by
    rcases List.mem_cons.mp ha with z | z
    · rw [z]; simpa using li_irr _
    · simpa using li_as (p4 a z))]
  rw [List.length_take]
  simp
  omega
theorem SLs.mem {T : List Int} {SL : List Nat} (h : SLs T SL) {q x : Nat} (hx : SL[q]? = some x) : x < T.length ∧ q < T.length := by
  have h1 := (h.1.mem_iff).mp (List.mem_of_getElem? hx)
  have h2 := (List.getElem?_eq_some_iff.mp hx).1
  have h3 := h.1.length_eq
  rw [List.length_range] at h3
  exact ⟨List.mem_range.mp h1, by omega⟩
theorem SLs.ex {T : List Int} {SL : List Nat} (h : SLs T SL) {x : Nat} (hx : x < T.length) : ∃ q : Nat, SL[q]? = some x := by
  have : x ∈ SL := h.1.mem_iff.mpr (List.mem_range.mpr hx)
  obtain ⟨q, hq, e⟩ := List.mem_iff_getElem.mp this
  exact ⟨q, by rw [List.getElem?_eq_getElem hq, e]⟩
theorem c_mbegin (l : Launch) (u : Mem) {m k x : Nat} {T : List Int} {SL : List Nat} (hm : MF u m) (ta : TA u (m + 26) 0 T) (e34 : iv_ u m 34 = (T.length : Int)) (h : SLs T SL) (hx : SL[k]? = some x) : Mt_ l yX13_begin cX13_begin 5 (some .int) 1 0 0 [aR m, aI (k : Int)] u (qI fun r v => u = v ∧ r = (x : Int)) := by
  have t200 := ta.2.2.2.2.1
  obtain ⟨hxT, hkT⟩ := h.mem hx
  refine Mt_of (by decide) (Nat.le_of_ble_eq_true rfl) (fun X ho hX hN hI => ?_)
  subst hX
  show Z X 0 [some (aR m), some (aI  (k : Int)), none, none, none] [] u 0 0
  have key : ∀ (d i : Nat), d + i = T.length → i ≤ x → Z X 2 [some (aR m), some (aI (k : Int)), some (aI (i : Int)), none, none] [] u 0 0 := by
    intro d
    induction d with
    | zero => intro i hi hix; omega
    | succ d ih =>
      intro i hi hix
      have hdi := ta.drop (n := i) (by omega)
      have edi : ((T.drop i).length : Int) = (T.length : Int) - (i : Int) := by rw [List.length_drop]; omega
      have inn : ∀ (a b : Nat), a + b = T.length → Z X 15 [some (aR m), some (aI (k : Int)), some (aI (i : Int)), some (aI (lessN T i b : Nat)), some (aI (b : Int))] [] u 0 0 := by
        intro a
        induction a with
        | zero =>
          intro b hb
          have hbT : b = T.length := by omega
          have hle : lessN T i b ≤ b := by
            unfold lessN
            refine Nat.le_trans (List.length_filter_le _ _) ?_
            simp
          refine z_iload ho dX13_begin_15 rfl ?_
          refine z_aload_n ho dX13_begin_17 rfl ?_
          refine gX13_232 ho dX13_begin_18 hm.1 ?_
          refine z_icmp_ge (tgt := 68) ho dX13_begin_21 (by decide) (by unfold rng; omega) (by rw [e34]; unfold rng; omega) (fun c21 => ?_) (fun c21 => ?_)
          · 
            refine z_iload_n ho dX13_begin_68 rfl ?_
            refine z_iload_n ho dX13_begin_69 rfl ?_
            refine z_icmp_ne (tgt := 75) ho dX13_begin_70 (by decide) (by unfold rng; omega) (by unfold rng; omega) (fun c70 => ?_) (fun c70 => ?_)
            · have hne : i ≠ x := fun z => by
                rw [z, hbT, h.less hx] at c70
                exact c70 rfl
              refine z_iinc ho dX13_begin_75 rfl rfl ?_
              refine z_goto (tgt := 2) ho dX13_begin_78 (by decide) ?_
              refine z_wk ?_ (ih (i + 1) (by omega) (by omega))
              exact ⟨rfl, rfl, rfl, trivial⟩
            · 
              refine z_iload_n ho dX13_begin_73 rfl ?_
              refine r_I ho dX13_begin_74 (Nat.le_of_ble_eq_true rfl) (Nat.le_of_ble_eq_true rfl) ?_
              obtain ⟨q, hq⟩ := h.ex (x := i) (by omega)
              have e1 := h.less hq
              rw [hbT, e1] at c70
              have hqk : q = k := by omega
              rw [hqk, hx] at hq
              cases hq
              exact ⟨rfl, rfl⟩
          · omega
        | succ a iha =>
          intro b hb
          have nx := iha (b + 1) (by omega)
          obtain ⟨n1, n2⟩ := lessN_succ T i b
          have hdb := ta.drop (n := b) (by omega)
          have edb : ((T.drop b).length : Int) = (T.length : Int) - (b : Int) := by rw [List.length_drop]; omega
          have hco := c_order (La_ X) u hdb hdi
          rw [edi, edb] at hco
          have t60 : ∀ c : Int, (lessN T i b : Int) + c = (lessN T i (b + 1) : Nat) → Z X 60 [some (aR m), some (aI (k : Int)), some (aI (i : Int)), some (aI (lessN T i b : Nat)), some (aI (b : Int))] [aI c, aI (lessN T i b : Nat)] u 0 0 := fun c hc => by
            refine z_iadd ho dX13_begin_60 ?_
            refine z_istore_n ho dX13_begin_61 (Nat.le_of_ble_eq_true rfl) rfl ?_
            refine z_iinc ho dX13_begin_62 rfl rfl ?_
            refine z_goto (tgt := 15) ho dX13_begin_65 (by decide) ?_
            rw [hc]
            exact nx
          refine z_iload ho dX13_begin_15 rfl ?_
          refine z_aload_n ho dX13_begin_17 rfl ?_
          refine gX13_232 ho dX13_begin_18 hm.1 ?_
          refine z_icmp_ge (tgt := 68) ho dX13_begin_21 (by decide) (by unfold rng; omega) (by rw [e34]; unfold rng; omega) (fun c21 => ?_) (fun c21 => ?_)
          · omega
          · 
            refine z_iload_n ho dX13_begin_24 rfl ?_
            refine z_aload_n ho dX13_begin_25 rfl ?_
            refine gX13_90 ho dX13_begin_26 hm.1 (mget hm.r33 ?_)
            refine z_iload ho dX13_begin_29 rfl ?_
            refine z_aload_n ho dX13_begin_31 rfl ?_
            refine gX13_232 ho dX13_begin_32 hm.1 ?_
            rw [e34]
            refine z_iload ho dX13_begin_35 rfl ?_
            refine z_isub ho dX13_begin_37 ?_
            refine z_aload_n ho dX13_begin_38 rfl ?_
            refine gX13_90 ho dX13_begin_39 hm.1 (mget hm.r33 ?_)
            refine z_iload_n ho dX13_begin_42 rfl ?_
            refine z_aload_n ho dX13_begin_43 rfl ?_
            refine gX13_232 ho dX13_begin_44 hm.1 ?_
            rw [e34]
            refine z_iload_n ho dX13_begin_47 rfl ?_
            refine z_isub ho dX13_begin_48 ?_
            refine kX13_106 ho hN (hco) dX13_begin_49 (Nat.le_of_ble_eq_true rfl) (Nat.le_of_ble_eq_true rfl) (Nat.le_of_ble_eq_true rfl) (Nat.le_of_ble_eq_true rfl) (fun x49 u49 h49 => ?_)
            obtain ⟨rfl, hs⟩ := h49
            refine z_if_ge (tgt := 59) ho dX13_begin_52 (by decide) hs.rg (fun c52 => ?_) (fun c52 => ?_)
            · 
              refine z_iconst ho dX13_begin_59 ?_
              exact t60 0 (by rw [n2 (fun z => by have := hs.2.1.mpr z; omega)]; omega)
            · 
              refine z_iconst ho dX13_begin_55 ?_
              refine z_goto (tgt := 60) ho dX13_begin_56 (by decide) ?_
              exact t60 1 (by rw [n1 (hs.2.1.mp c52)]; omega)
      refine z_iload_n ho dX13_begin_2 rfl ?_
      refine z_aload_n ho dX13_begin_3 rfl ?_
      refine gX13_232 ho dX13_begin_4 hm.1 ?_
      refine z_icmp_ge (tgt := 81) ho dX13_begin_7 (by decide) (by unfold rng; omega) (by rw [e34]; unfold rng; omega) (fun c7 => ?_) (fun c7 => ?_)
      · omega
      · 
        refine z_iconst ho dX13_begin_10 ?_
        refine z_istore_n ho dX13_begin_11 (Nat.le_of_ble_eq_true rfl) rfl ?_
        refine z_iconst ho dX13_begin_12 ?_
        refine z_istore ho dX13_begin_13 (Nat.le_of_ble_eq_true rfl) rfl ?_
        exact inn T.length 0 rfl
  refine z_iconst ho dX13_begin_0 ?_
  refine z_istore_n ho dX13_begin_1 (Nat.le_of_ble_eq_true rfl) rfl ?_
  exact key T.length 0 rfl (Nat.zero_le _)
theorem c_msuffix0 (l : Launch) (u : Mem) {m N : Nat} {k w : Int} {tp fd : List Int} {M : Nat → List KV} {ch : Nat → Int} {VL : List VS} {Ks : List (List Int)} {T : List Int} {Os : List (List Int)} (h : MS u m N tp fd M ch VL Ks T Os) (rk : rng k) (rw_ : rng w) (hn : ¬ (0 ≤ k ∧ k < T.length ∧ 0 ≤ w ∧ w ≤ 1)) : Mt_ l yX13_suffix cX13_suffix 6 (some .int) 2 0 0 [aR m, aI k, aI w] u (qI fun r v => qM m N u 0 tp fd M ch VL Ks T Os v ∧ r = -1) := by
  have HQ : qM m N u 0 tp fd M ch VL Ks T Os (wI_ u m 0 0) := qM_raise h
  have hm := h.1
  have e34 := HQ.2.2.2.2.2.2.2.2.2.1.1.1
  have t120 := HQ.2.2.2.2.2.2.2.2.2.1.1.2.2.1
  refine Mt_of (by decide) (Nat.le_of_ble_eq_true rfl) (fun X ho hX hN hI => ?_)
  subst hX
  show Z X 0 [some (aR m), some (aI k), some (aI w), none, none, none] [] u 0 0
  have no : Z X 26 [some (aR m), some (aI k), some (aI w), none, none, none] [] (wI_ u m 0 0) 0 0 := by
    refine z_iconst ho dX13_suffix_26 ?_
    refine r_I ho dX13_suffix_27 (Nat.le_of_ble_eq_true rfl) (Nat.le_of_ble_eq_true rfl) ?_
    exact ⟨HQ, rfl⟩
  refine z_aload_n ho dX13_suffix_0 rfl ?_
  refine z_iconst ho dX13_suffix_1 ?_
  refine pX13_99 ho dX13_suffix_2 hm.1  ?_
  refine z_iload_n ho dX13_suffix_5 rfl ?_
  refine z_if_lt (tgt := 26) ho dX13_suffix_6 (by decide) rk (fun c6 => ?_) (fun c6 => ?_)
  · exact no
  · 
    refine z_iload_n ho dX13_suffix_9 rfl ?_
    refine z_aload_n ho dX13_suffix_10 rfl ?_
    refine gX13_232 ho dX13_suffix_11 hm.1 ?_
    refine z_icmp_ge (tgt := 26) ho dX13_suffix_14 (by decide) rk (by rw [e34]; unfold rng; omega) (fun c14 => ?_) (fun c14 => ?_)
    · exact no
    · rw [e34] at c14
      refine z_iload_n ho dX13_suffix_17 rfl ?_
      refine z_if_lt (tgt := 26) ho dX13_suffix_18 (by decide) rw_ (fun c18 => ?_) (fun c18 => ?_)
      · exact no
      · 
        refine z_iload_n ho dX13_suffix_21 rfl ?_
        refine z_iconst ho dX13_suffix_22 ?_
        refine z_icmp_le (tgt := 28) ho dX13_suffix_23 (by decide) rw_ (by unfold rng; omega) (fun c23 => ?_) (fun c23 => ?_)
        · omega
        · exact no
theorem c_msuffix (l : Launch) (u : Mem) {m N k : Nat} {w : Int} {tp fd : List Int} {M : Nat → List KV} {ch : Nat → Int} {VL : List VS} {Ks : List (List Int)} {T : List Int} {Os : List (List Int)} {SL : List Nat} {x : Nat} (h : MS u m N tp fd M ch VL Ks T Os) (hw : w = 0 ∨ w = 1) (hS : SLs T SL) (hx : SL[k]? = some x) : Mt_ l yX13_suffix cX13_suffix 6 (some .int) 2 0 0 [aR m, aI (k : Int), aI w] u (qI fun r v => qM m N u 0 tp fd M ch VL Ks T Os v ∧ ((w = 0 ∧ r = (x : Int)) ∨ (w = 1 ∧ k = 0 ∧ r = 0) ∨ (w = 1 ∧ ∃ y k', k = k' + 1 ∧ SL[k']? = some y ∧ r = (lcp (T.drop y) (T.drop x) : Nat)))) := by
  have HQ : qM m N u 0 tp fd M ch VL Ks T Os (wI_ u m 0 0) := qM_raise h
  have hm := h.1
  have hT := HQ.2.2.2.2.2.2.2.2.2.1
  have e34 := hT.1.1
  have t120 := hT.1.2.2.1
  have ta := hT.ta hm
  obtain ⟨hxT, hkT⟩ := hS.mem hx
  refine Mt_of (by decide) (Nat.le_of_ble_eq_true rfl) (fun X ho hX hN hI => ?_)
  subst hX
  show Z X 0 [some (aR m), some (aI  (k : Int)), some (aI w), none, none, none] [] u 0 0
  refine z_aload_n ho dX13_suffix_0 rfl ?_
  refine z_iconst ho dX13_suffix_1 ?_
  refine pX13_99 ho dX13_suffix_2 hm.1  ?_
  refine z_iload_n ho dX13_suffix_5 rfl ?_
  refine z_if_lt (tgt := 26) ho dX13_suffix_6 (by decide) (by unfold rng; omega) (fun c6 => ?_) (fun c6 => ?_)
  · omega
  · 
    refine z_iload_n ho dX13_suffix_9 rfl ?_
    refine z_aload_n ho dX13_suffix_10 rfl ?_
    refine gX13_232 ho dX13_suffix_11 hm.1 ?_
    refine z_icmp_ge (tgt := 26) ho dX13_suffix_14 (by decide) (by unfold rng; omega) (by rw [e34]; unfold rng; omega) (fun c14 => ?_) (fun c14 => ?_)
    · omega
    · 
      refine z_iload_n ho dX13_suffix_17 rfl ?_
      refine z_if_lt (tgt := 26) ho dX13_suffix_18 (by decide) (by unfold rng; omega) (fun c18 => ?_) (fun c18 => ?_)
      · omega
      · 
        refine z_iload_n ho dX13_suffix_21 rfl ?_
        refine z_iconst ho dX13_suffix_22 ?_
        refine z_icmp_le (tgt := 28) ho dX13_suffix_23 (by decide) (by unfold rng; omega) (by unfold rng; omega) (fun c23 => ?_) (fun c23 => ?_)
        · 
          refine z_aload_n ho dX13_suffix_28 rfl ?_
          refine z_iload_n ho dX13_suffix_29 rfl ?_
          refine kX13_240 ho hN (c_mbegin _ _ hm ta e34 hS hx) dX13_suffix_30 hm.1 (Nat.le_of_ble_eq_true rfl) (Nat.le_of_ble_eq_true rfl) (Nat.le_of_ble_eq_true rfl) (Nat.le_of_ble_eq_true rfl) (fun x30 u30 h30 => ?_)
          obtain ⟨rfl, rfl⟩ := h30
          refine z_istore_n ho dX13_suffix_33 (Nat.le_of_ble_eq_true rfl) rfl ?_
          refine z_iload_n ho dX13_suffix_34 rfl ?_
          refine z_if_ne (tgt := 40) ho dX13_suffix_35 (by decide) (by unfold rng; omega) (fun c35 => ?_) (fun c35 => ?_)
          · 
            refine z_iload_n ho dX13_suffix_40 rfl ?_
            refine z_if_ne (tgt := 46) ho dX13_suffix_41 (by decide) (by unfold rng; omega) (fun c41 => ?_) (fun c41 => ?_)
            · obtain ⟨k', rfl⟩ : ∃ k', k = k' + 1 := ⟨k - 1, by omega⟩
              have hkl : k' < SL.length := by have := (List.getElem?_eq_some_iff.mp hx).1; omega
              have hy : SL[k']? = some SL[k'] := List.getElem?_eq_getElem hkl
              generalize SL[k'] = y at hy
              obtain ⟨hyT, -⟩ := hS.mem hy
              have hb2 := c_mbegin (La_ X) (wI_ u m 0 0) hm ta e34 hS hy
              have ek : ((k' + 1 : Nat) : Int) - 1 = (k' : Int) := by omega
              have key : ∀ (d n : Nat), d + n = T.length → n ≤ lcp (T.drop y) (T.drop x) → Z X 58 [some (aR m), some (aI ((k' + 1 : Nat) : Int)), some (aI w), some (aI (x : Int)), some (aI (y : Int)), some (aI (n : Int))] [] (wI_ u m 0 0) 0 0 := by
                intro d n hdn hn
                have gen : ∀ (d n : Nat), d = T.length + 1 - n → n ≤ lcp (T.drop y) (T.drop x) → Z X 58 [some (aR m), some (aI ((k' + 1 : Nat) : Int)), some (aI w), some (aI (x : Int)), some (aI (y : Int)), some (aI (n : Int))] [] (wI_ u m 0 0) 0 0 := by
                  intro d
                  induction d with
                  | zero =>
                    intro n hd hn
                    have := ((lcp_ge _ _ _).mp hn).1
                    rw [List.length_drop] at this
                    omega
                  | succ d ih =>
                    intro n hd hn
                    obtain ⟨s1, s2⟩ := lcp_step hn
                    have out : ¬ (x + n < T.length ∧ y + n < T.length ∧ T[x + n]? = T[y + n]?) → Z X 109 [some (aR m), some (aI ((k' + 1 : Nat) : Int)), some (aI w), some (aI (x : Int)), some (aI (y : Int)), some (aI (n : Int))] [] (wI_ u m 0 0) 0 0 := fun hno => by
                      refine z_iload ho dX13_suffix_109 rfl ?_
                      refine r_I ho dX13_suffix_111 (Nat.le_of_ble_eq_true rfl) (Nat.le_of_ble_eq_true rfl) ?_
                      exact ⟨HQ, Or.inr (Or.inr ⟨by omega, y, k', rfl, hy, by rw [s2 hno]⟩)⟩
                    have hlen := ((lcp_ge _ _ _).mp hn)
                    rw [List.length_drop, List.length_drop] at hlen
                    refine z_iload_n ho dX13_suffix_58 rfl ?_
                    refine z_iload ho dX13_suffix_59 rfl ?_
                    refine z_iadd ho dX13_suffix_61 ?_
                    refine z_aload_n ho dX13_suffix_62 rfl ?_
                    refine gX13_232 ho dX13_suffix_63 hm.1 ?_
                    refine z_icmp_ge (tgt := 109) ho dX13_suffix_66 (by decide) (by unfold rng; omega) (by rw [e34]; unfold rng; omega) (fun c66 => ?_) (fun c66 => ?_)
                    · exact out (fun z => by omega)
                    · 
                      refine z_iload ho dX13_suffix_69 rfl ?_
                      refine z_iload ho dX13_suffix_71 rfl ?_
                      refine z_iadd ho dX13_suffix_73 ?_
                      refine z_aload_n ho dX13_suffix_74 rfl ?_
                      refine gX13_232 ho dX13_suffix_75 hm.1 ?_
                      refine z_icmp_ge (tgt := 109) ho dX13_suffix_78 (by decide) (by unfold rng; omega) (by rw [e34]; unfold rng; omega) (fun c78 => ?_) (fun c78 => ?_)
                      · exact out (fun z => by omega)
                      · obtain ⟨f1, f2, f3⟩ := ta.at_ (j := (x : Int) + (n : Int)) (by omega) (by omega)
                        obtain ⟨g1, g2, g3⟩ := ta.at_ (j := (y : Int) + (n : Int)) (by omega) (by omega)
                        rw [Int.zero_add] at f1 f2 f3 g1 g2 g3
                        have gx : T[x + n]? = some (iv_ (wI_ u m 0 0) (m + 26) ((x : Int) + (n : Int))) := by
                          rw [f1]; unfold _root_.Jvm.Pilot.CKeyHallLaw_law_r3948_e91dda.ch; rw [show ((x : Int) + (n : Int)).toNat = x + n by omega, List.getD_eq_getElem?_getD, List.getElem?_eq_getElem (by omega)]; rfl
                        have gy : T[y + n]? = some (iv_ (wI_ u m 0 0) (m + 26) ((y : Int) + (n : Int))) := by
                          rw [g1]; unfold _root_.Jvm.Pilot.CKeyHallLaw_law_r3948_e91dda.ch; rw [show ((y : Int) + (n : Int)).toNat = y + n by omega, List.getD_eq_getElem?_getD, List.getElem?_eq_getElem (by omega)]; rfl
                        refine z_aload_n ho dX13_suffix_81 rfl ?_
                        refine gX13_90 ho dX13_suffix_82 hm.1 (mget hm.r33 ?_)
                        refine z_iload_n ho dX13_suffix_85 rfl ?_
                        refine z_iload ho dX13_suffix_86 rfl ?_
                        refine z_iadd ho dX13_suffix_88 ?_
                        refine z_iald ho dX13_suffix_89 hm.k26 (by omega) (hm.t26 (by omega)) ?_
                        refine z_aload_n ho dX13_suffix_90 rfl ?_
                        refine gX13_90 ho dX13_suffix_91 hm.1 (mget hm.r33 ?_)
                        refine z_iload ho dX13_suffix_94 rfl ?_
                        refine z_iload ho dX13_suffix_96 rfl ?_
                        refine z_iadd ho dX13_suffix_98 ?_
                        refine z_iald ho dX13_suffix_99 hm.k26 (by omega) (hm.t26 (by omega)) ?_
                        refine z_icmp_ne (tgt := 109) ho dX13_suffix_100 (by decide) (by unfold rng; omega) (by unfold rng; omega) (fun c100 => ?_) (fun c100 => ?_)
                        · exact out (fun z => by rw [gx, gy] at z; exact c100 (Option.some.inj z.2.2))
                        · 
                          refine z_iinc ho dX13_suffix_103 rfl rfl ?_
                          refine z_goto (tgt := 58) ho dX13_suffix_106 (by decide) ?_
                          exact ih (n + 1) (by omega) (s1 ⟨by omega, by omega, by rw [gx, gy, c100]⟩)
                exact gen _ n rfl hn
              refine z_aload_n ho dX13_suffix_46 rfl ?_
              refine z_iload_n ho dX13_suffix_47 rfl ?_
              refine z_iconst ho dX13_suffix_48 ?_
              refine z_isub ho dX13_suffix_49 ?_
              rw [ek]
              refine kX13_240 ho hN (hb2) dX13_suffix_50 hm.1 (Nat.le_of_ble_eq_true rfl) (Nat.le_of_ble_eq_true rfl) (Nat.le_of_ble_eq_true rfl) (Nat.le_of_ble_eq_true rfl) (fun x50 u50 h50 => ?_)
              obtain ⟨rfl, rfl⟩ := h50
              refine z_istore ho dX13_suffix_53 (Nat.le_of_ble_eq_true rfl) rfl ?_
              refine z_iconst ho dX13_suffix_55 ?_
              refine z_istore ho dX13_suffix_56 (Nat.le_of_ble_eq_true rfl) rfl ?_
              exact key T.length 0 rfl (Nat.zero_le _)
            · 
              refine z_iconst ho dX13_suffix_44 ?_
              refine r_I ho dX13_suffix_45 (Nat.le_of_ble_eq_true rfl) (Nat.le_of_ble_eq_true rfl) ?_
              exact ⟨HQ, Or.inr (Or.inl ⟨by omega, by omega, rfl⟩)⟩
          · 
            refine z_iload_n ho dX13_suffix_38 rfl ?_
            refine r_I ho dX13_suffix_39 (Nat.le_of_ble_eq_true rfl) (Nat.le_of_ble_eq_true rfl) ?_
            exact ⟨HQ, Or.inl ⟨c35, rfl⟩⟩
        · omega
theorem c_mlocate0 (l : Launch) (u : Mem) {m N : Nat} {w : Int} {tp fd : List Int} {M : Nat → List KV} {ch : Nat → Int} {VL : List VS} {Ks : List (List Int)} {T : List Int} {Os : List (List Int)} (h : MS u m N tp fd M ch VL Ks T Os) (rw_ : rng w) (hn : ¬ (0 ≤ w ∧ w ≤ 1)) : Mt_ l yX13_locate cX13_locate 5 (some .int) 2 0 0 [aR m, aI w] u (qI fun r v => qM m N u 0 tp fd M ch VL Ks T Os v ∧ r = -1) := by
  have HQ : qM m N u 0 tp fd M ch VL Ks T Os (wI_ u m 0 0) := qM_raise h
  have hm := h.1
  refine Mt_of (by decide) (Nat.le_of_ble_eq_true rfl) (fun X ho hX hN hI => ?_)
  subst hX
  show Z X 0 [some (aR m), some (aI w), none, none, none] [] u 0 0
  refine z_aload_n ho dX13_locate_0 rfl ?_
  refine z_iconst ho dX13_locate_1 ?_
  refine pX13_99 ho dX13_locate_2 hm.1  ?_
  refine z_iload_n ho dX13_locate_5 rfl ?_
  refine z_if_eq (tgt := 16) ho dX13_locate_6 (by decide) rw_ (fun c6 => ?_) (fun c6 => ?_)
  · omega
  · 
    refine z_iload_n ho dX13_locate_9 rfl ?_
    refine z_iconst ho dX13_locate_10 ?_
    refine z_icmp_eq (tgt := 16) ho dX13_locate_11 (by decide) rw_ (by unfold rng; omega) (fun c11 => ?_) (fun c11 => ?_)
    · omega
    · 
      refine z_iconst ho dX13_locate_14 ?_
      refine r_I ho dX13_locate_15 (Nat.le_of_ble_eq_true rfl) (Nat.le_of_ble_eq_true rfl) ?_
      exact ⟨HQ, rfl⟩
/-- how many of the first n suffixes begin with a text -/
noncomputable def hitN (T K : List Int) (n : Nat) : Nat := ((List.range n).filter (fun j => @decide (K <+: T.drop j) (Classical.propDecidable _))).length
theorem hitN_succ (T K : List Int) (n : Nat) : (K <+: T.drop n → hitN T K (n + 1) = hitN T K n + 1) ∧ (¬ K <+: T.drop n → hitN T K (n + 1) = hitN T K n) := by
  unfold hitN
  rw [List.range_succ, List.filter_append, List.length_append]
  constructor
  · intro h; simp [h]
  · intro h; simp [h]
/-- those between two places of a list -/
theorem cnt_btw {P : Nat → Prop} (SL : List Nat) (f n : Nat) (h : f + n ≤ SL.length) (hP : ∀ (q : Nat) x, SL[q]? = some x → (P x ↔ f ≤ q ∧ q < f + n)) : (SL.filter (fun x => @decide (P x) (Classical.propDecidable _))).length = n := by
  have e : SL = SL.take f ++ ((SL.drop f).take n ++ SL.drop (f + n)) := by
    rw [← List.drop_drop, List.take_append_drop, List.take_append_drop]
  rw [e, List.filter_append, List.filter_append, List.length_append, List.length_append]
  have e1 : (SL.take f).filter (fun x => @decide (P x) (Classical.propDecidable _)) = [] := List.filter_eq_nil_iff.mpr (fun a ha => by
    obtain ⟨q, hq, rfl⟩ := List.mem_iff_getElem.mp ha
    rw [List.length_take] at hq
    have := hP q ((SL.take f)[q]) (by rw [List.getElem_take]; exact List.getElem?_eq_getElem (by omega))
    exact fun hz => absurd (this.mp (@of_decide_eq_true _ (Classical.propDecidable _) hz)).1 (by omega))
  have e3 : (SL.drop (f + n)).filter (fun x => @decide (P x) (Classical.propDecidable _)) = [] := List.filter_eq_nil_iff.mpr (fun a ha => by
    obtain ⟨q, hq, rfl⟩ := List.mem_iff_getElem.mp ha
    rw [List.length_drop] at hq
    have := hP (f + n + q) ((SL.drop (f + n))[q]) (by rw [List.getElem_drop]; exact List.getElem?_eq_getElem (by omega))
    exact fun hz => absurd (this.mp (@of_decide_eq_true _ (Classical.propDecidable _) hz)).2 (by omega))
  have e2 : ((SL.drop f).take n).filter (fun x => @decide (P x) (Classical.propDecidable _)) = (SL.drop f).take n := List.filter_eq_self.mpr (fun a ha => by
    obtain ⟨q, hq, rfl⟩ := List.mem_iff_getElem.mp ha
    rw [List.length_take, List.length_drop] at hq
    have := hP (f + q) (((SL.drop f).take n)[q]) (by rw [List.getElem_take, List.getElem_drop]; exact List.getElem?_eq_getElem (by omega))
    exact @decide_eq_true _ (Classical.propDecidable _) (this.mpr ⟨by omega, by omega⟩))
  rw [e1, e2, e3, List.length_take, List.length_drop]
  simp
  omega
theorem c_mlocate (l : Launch) (u : Mem) {m N f n : Nat} {w : Int} {tp fd : List Int} {M : Nat → List KV} {ch : Nat → Int} {VL : List VS} {Ks : List (List Int)} {T : List Int} {Os : List (List Int)} (h : MS u m N tp fd M ch VL Ks T Os) (hw : w = 0 ∨ w = 1) (hL : Loc T tp f n) : Mt_ l yX13_locate cX13_locate 5 (some .int) 2 0 0 [aR m, aI w] u (qI fun r v => qM m N u 0 [] fd M ch VL Ks T Os v ∧ r = if w = 0 then (n : Int) else if 0 < n then (f : Int) else -1) := by
  obtain ⟨SL, hp, hs, hfn, hpre⟩ := hL
  have hS : SLs T SL := ⟨hp, hs⟩
  have hlen : SL.length = T.length := by have := hp.length_eq; rwa [List.length_range] at this
  have hits : hitN T tp T.length = n := by
    unfold hitN
    rw [← (hp.filter _).length_eq]
    exact cnt_btw SL f n (by omega) hpre
  have HQ : qM m N u 0 [] fd M ch VL Ks T Os (wI_ (wI_ u m 0 0) m 2 0) := ⟨((Im.rf m u).w0 0 0).w0 2 0, by rw [iv_wI, if_neg (by omega), iv_wI, if_pos ⟨rfl, rfl⟩], h.cgt (((Cg.rf m u _ _).f 0 0 (by decide)).f 2 0 (by decide)) (by rw [iv_wI, if_pos ⟨rfl, rfl⟩])⟩
  have hm := h.1
  have e2 : iv_ (wI_ u m 0 0) m 2 = (tp.length : Int) := by rw [iv_wI, if_neg (by omega)]; exact h.2.1.1
  have tl := h.2.1.2.2.1
  have tt : TA (wI_ (wI_ u m 0 0) m 2 0) (m + 1) 0 tp := by
    obtain ⟨q1, q2, q3, q4, q5, q6⟩ := h.2.1.ta hm
    exact ⟨q1, q2, q3, by rw [ivf (by omega), ivf (by omega)]; exact q4, q5, q6⟩
  refine Mt_of (by decide) (Nat.le_of_ble_eq_true rfl) (fun X ho hX hN hI => ?_)
  subst hX
  show Z X 0 [some (aR m), some (aI w), none, none, none] [] u 0 0
  have go : Z X 16 [some (aR m), some (aI w), none, none, none] [] (wI_ u m 0 0) 0 0 := by
    refine z_aload_n ho dX13_locate_16 rfl ?_
    refine gX13_102 ho dX13_locate_17 hm.1 ?_
    refine z_istore_n ho dX13_locate_20 (Nat.le_of_ble_eq_true rfl) rfl ?_
    rw [e2]
    refine z_aload_n ho dX13_locate_21 rfl ?_
    refine z_iconst ho dX13_locate_22 ?_
    refine pX13_102 ho dX13_locate_23 hm.1  ?_
    generalize wI_ (wI_ u m 0 0) m 2 0 = v at *
    have hm := HQ.2.2.1
    have hT := HQ.2.2.2.2.2.2.2.2.2.1
    have e34 := hT.1.1
    have t120 := hT.1.2.2.1
    have ta := hT.ta hm
    have t88 : w = 1 → ∀ (d k : Nat), d + k = T.length → (∀ q x, q < k → SL[q]? = some x → ¬ tp <+: T.drop x) → Z X 88 [some (aR m), some (aI w), some (aI tp.length), some (aI (n : Int)), some (aI (k : Int))] [] v 0 0 := by
      intro hw1 d
      induction d with
      | zero =>
        intro k hk hno
        have n0 : n = 0 := by
          rcases Nat.eq_zero_or_pos n with z | z
          · exact z
          · have hx : SL[f]? = some SL[f] := List.getElem?_eq_getElem (by omega)
            exact absurd ((hpre f _ hx).mpr ⟨Nat.le_refl _, by omega⟩) (hno f _ (by omega) hx)
        refine z_iload ho dX13_locate_88 rfl ?_
        refine z_aload_n ho dX13_locate_90 rfl ?_
        refine gX13_232 ho dX13_locate_91 hm.1 ?_
        refine z_icmp_ge (tgt := 143) ho dX13_locate_94 (by decide) (by unfold rng; omega) (by rw [e34]; unfold rng; omega) (fun c94 => ?_) (fun c94 => ?_)
        · 
          refine z_iconst ho dX13_locate_143 ?_
          refine r_I ho dX13_locate_144 (Nat.le_of_ble_eq_true rfl) (Nat.le_of_ble_eq_true rfl) ?_
          exact ⟨HQ, by rw [if_neg (by omega), if_neg (by omega)]⟩
        · omega
      | succ d ih =>
        intro k hk hno
        have hx : SL[k]? = some SL[k] := List.getElem?_eq_getElem (by omega)
        generalize SL[k] = x at hx
        obtain ⟨hxT, -⟩ := hS.mem hx
        have hdx := ta.drop (n := x) (by omega)
        have edx : ((T.drop x).length : Int) = (T.length : Int) - (x : Int) := by rw [List.length_drop]; omega
        have hbg := c_begins (La_ X) v hdx tt
        rw [edx] at hbg
        have hmb := c_mbegin (La_ X) v hm ta e34 hS hx
        refine z_iload ho dX13_locate_88 rfl ?_
        refine z_aload_n ho dX13_locate_90 rfl ?_
        refine gX13_232 ho dX13_locate_91 hm.1 ?_
        refine z_icmp_ge (tgt := 143) ho dX13_locate_94 (by decide) (by unfold rng; omega) (by rw [e34]; unfold rng; omega) (fun c94 => ?_) (fun c94 => ?_)
        · omega
        · 
          refine z_iload_n ho dX13_locate_97 rfl ?_
          refine z_if_le (tgt := 143) ho dX13_locate_98 (by decide) (by unfold rng; omega) (fun c98 => ?_) (fun c98 => ?_)
          · have n0 : n = 0 := by omega
            refine z_iconst ho dX13_locate_143 ?_
            refine r_I ho dX13_locate_144 (Nat.le_of_ble_eq_true rfl) (Nat.le_of_ble_eq_true rfl) ?_
            exact ⟨HQ, by rw [if_neg (by omega), if_neg (by omega)]⟩
          · 
            refine z_aload_n ho dX13_locate_101 rfl ?_
            refine gX13_90 ho dX13_locate_102 hm.1 (mget hm.r33 ?_)
            refine z_aload_n ho dX13_locate_105 rfl ?_
            refine z_iload ho dX13_locate_106 rfl ?_
            refine kX13_240 ho hN (hmb) dX13_locate_108 hm.1 (Nat.le_of_ble_eq_true rfl) (Nat.le_of_ble_eq_true rfl) (Nat.le_of_ble_eq_true rfl) (Nat.le_of_ble_eq_true rfl) (fun x108 u108 h108 => ?_)
            obtain ⟨rfl, rfl⟩ := h108
            refine z_aload_n ho dX13_locate_111 rfl ?_
            refine gX13_232 ho dX13_locate_112 hm.1 ?_
            rw [e34]
            refine z_aload_n ho dX13_locate_115 rfl ?_
            refine z_iload ho dX13_locate_116 rfl ?_
            refine kX13_240 ho hN (hmb) dX13_locate_118 hm.1 (Nat.le_of_ble_eq_true rfl) (Nat.le_of_ble_eq_true rfl) (Nat.le_of_ble_eq_true rfl) (Nat.le_of_ble_eq_true rfl) (fun x118 u118 h118 => ?_)
            obtain ⟨rfl, rfl⟩ := h118
            refine z_isub ho dX13_locate_121 ?_
            refine z_aload_n ho dX13_locate_122 rfl ?_
            refine gX13_7 ho dX13_locate_123 hm.1 (mget hm.r1 ?_)
            refine z_iconst ho dX13_locate_126 ?_
            refine z_iload_n ho dX13_locate_127 rfl ?_
            refine kX13_110 ho hN (hbg) dX13_locate_128 (Nat.le_of_ble_eq_true rfl) (Nat.le_of_ble_eq_true rfl) (Nat.le_of_ble_eq_true rfl) (Nat.le_of_ble_eq_true rfl) (fun x128 u128 h128 => ?_)
            obtain ⟨rfl, hb⟩ := h128
            refine z_if_eq (tgt := 137) ho dX13_locate_131 (by decide) (by rcases hb with ⟨z, -⟩ | ⟨z, -⟩ <;> rw [z] <;> unfold rng <;> omega) (fun c131 => ?_) (fun c131 => ?_)
            · have hnp := (hb.resolve_left (fun z => by omega)).2
              refine z_iinc ho dX13_locate_137 rfl rfl ?_
              refine z_goto (tgt := 88) ho dX13_locate_140 (by decide) ?_
              refine ih (k + 1) (by omega) (fun q y hq hy => ?_)
              rcases lt_or_eq' hq with z | z
              · exact hno q y z hy
              · rw [z, hx] at hy; cases hy; exact hnp
            · have hpp := (hb.resolve_right (fun z => c131 z.1)).2
              have hkf := (hpre k x hx).mp hpp
              have hfk : f = k := by
                rcases Nat.lt_or_eq_of_le hkf.1 with z | z
                · have hy : SL[f]? = some SL[f] := List.getElem?_eq_getElem (by omega)
                  exact absurd ((hpre f _ hy).mpr ⟨Nat.le_refl _, by omega⟩) (hno f _ z hy)
                · exact z
              refine z_iload ho dX13_locate_134 rfl ?_
              refine r_I ho dX13_locate_136 (Nat.le_of_ble_eq_true rfl) (Nat.le_of_ble_eq_true rfl) ?_
              exact ⟨HQ, by rw [if_neg (by omega), if_pos (by omega), hfk]⟩
    have key : ∀ (a b : Nat), a + b = T.length → Z X 31 [some (aR m), some (aI w), some (aI tp.length), some (aI (hitN T tp b : Nat)), some (aI (b : Int))] [] v 0 0 := by
      intro a
      induction a with
      | zero =>
        intro b hb
        have hbT : b = T.length := by omega
        rw [hbT, hits]
        refine z_iload ho dX13_locate_31 rfl ?_
        refine z_aload_n ho dX13_locate_33 rfl ?_
        refine gX13_232 ho dX13_locate_34 hm.1 ?_
        refine z_icmp_ge (tgt := 79) ho dX13_locate_37 (by decide) (by unfold rng; omega) (by rw [e34]; unfold rng; omega) (fun c37 => ?_) (fun c37 => ?_)
        · 
          refine z_iload_n ho dX13_locate_79 rfl ?_
          refine z_if_ne (tgt := 85) ho dX13_locate_80 (by decide) (by unfold rng; omega) (fun c80 => ?_) (fun c80 => ?_)
          · 
            refine z_iconst ho dX13_locate_85 ?_
            refine z_istore ho dX13_locate_86 (Nat.le_of_ble_eq_true rfl) rfl ?_
            exact t88 (by omega) T.length 0 rfl (fun q x hq => by omega)
          · 
            refine z_iload_n ho dX13_locate_83 rfl ?_
            refine r_I ho dX13_locate_84 (Nat.le_of_ble_eq_true rfl) (Nat.le_of_ble_eq_true rfl) ?_
            exact ⟨HQ, by rw [if_pos c80]⟩
        · omega
      | succ a ih =>
        intro b hb
        have nx := ih (b + 1) (by omega)
        obtain ⟨n1, n2⟩ := hitN_succ T tp b
        have hdb := ta.drop (n := b) (by omega)
        have edb : ((T.drop b).length : Int) = (T.length : Int) - (b : Int) := by rw [List.length_drop]; omega
        have hbg := c_begins (La_ X) v hdb tt
        rw [edb] at hbg
        have t71 : ∀ c : Int, (hitN T tp b : Int) + c = (hitN T tp (b + 1) : Nat) → Z X 71 [some (aR m), some (aI w), some (aI tp.length), some (aI (hitN T tp b : Nat)), some (aI (b : Int))] [aI c, aI (hitN T tp b : Nat)] v 0 0 := fun c hc => by
          refine z_iadd ho dX13_locate_71 ?_
          refine z_istore_n ho dX13_locate_72 (Nat.le_of_ble_eq_true rfl) rfl ?_
          refine z_iinc ho dX13_locate_73 rfl rfl ?_
          refine z_goto (tgt := 31) ho dX13_locate_76 (by decide) ?_
          rw [hc]
          exact nx
        refine z_iload ho dX13_locate_31 rfl ?_
        refine z_aload_n ho dX13_locate_33 rfl ?_
        refine gX13_232 ho dX13_locate_34 hm.1 ?_
        refine z_icmp_ge (tgt := 79) ho dX13_locate_37 (by decide) (by unfold rng; omega) (by rw [e34]; unfold rng; omega) (fun c37 => ?_) (fun c37 => ?_)
        · omega
        · 
          refine z_iload_n ho dX13_locate_40 rfl ?_
          refine z_aload_n ho dX13_locate_41 rfl ?_
          refine gX13_90 ho dX13_locate_42 hm.1 (mget hm.r33 ?_)
          refine z_iload ho dX13_locate_45 rfl ?_
          refine z_aload_n ho dX13_locate_47 rfl ?_
          refine gX13_232 ho dX13_locate_48 hm.1 ?_
          rw [e34]
          refine z_iload ho dX13_locate_51 rfl ?_
          refine z_isub ho dX13_locate_53 ?_
          refine z_aload_n ho dX13_locate_54 rfl ?_
          refine gX13_7 ho dX13_locate_55 hm.1 (mget hm.r1 ?_)
          refine z_iconst ho dX13_locate_58 ?_
          refine z_iload_n ho dX13_locate_59 rfl ?_
          refine kX13_110 ho hN (hbg) dX13_locate_60 (Nat.le_of_ble_eq_true rfl) (Nat.le_of_ble_eq_true rfl) (Nat.le_of_ble_eq_true rfl) (Nat.le_of_ble_eq_true rfl) (fun x60 u60 h60 => ?_)
          obtain ⟨rfl, hb'⟩ := h60
          refine z_if_eq (tgt := 70) ho dX13_locate_63 (by decide) (by rcases hb' with ⟨z, -⟩ | ⟨z, -⟩ <;> rw [z] <;> unfold rng <;> omega) (fun c63 => ?_) (fun c63 => ?_)
          · 
            refine z_iconst ho dX13_locate_70 ?_
            exact t71 0 (by rw [n2 (hb'.resolve_left (fun z => by omega)).2]; omega)
          · 
            refine z_iconst ho dX13_locate_66 ?_
            refine z_goto (tgt := 71) ho dX13_locate_67 (by decide) ?_
            exact t71 1 (by rw [n1 (hb'.resolve_right (fun z => c63 z.1)).2]; omega)
    refine z_iconst ho dX13_locate_26 ?_
    refine z_istore_n ho dX13_locate_27 (Nat.le_of_ble_eq_true rfl) rfl ?_
    refine z_iconst ho dX13_locate_28 ?_
    refine z_istore ho dX13_locate_29 (Nat.le_of_ble_eq_true rfl) rfl ?_
    exact key T.length 0 rfl
  refine z_aload_n ho dX13_locate_0 rfl ?_
  refine z_iconst ho dX13_locate_1 ?_
  refine pX13_99 ho dX13_locate_2 hm.1  ?_
  refine z_iload_n ho dX13_locate_5 rfl ?_
  refine z_if_eq (tgt := 16) ho dX13_locate_6 (by decide) (by unfold rng; omega) (fun c6 => ?_) (fun c6 => ?_)
  · exact go
  · 
    refine z_iload_n ho dX13_locate_9 rfl ?_
    refine z_iconst ho dX13_locate_10 ?_
    refine z_icmp_eq (tgt := 16) ho dX13_locate_11 (by decide) (by unfold rng; omega) (by unfold rng; omega) (fun c11 => ?_) (fun c11 => ?_)
    · exact go
    · omega
