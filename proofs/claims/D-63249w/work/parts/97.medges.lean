set_option maxRecDepth 100000
/-! ===== KeyHallModel: octet, bit, depth, sameBytes ===== -/
/-- a key's cell: its text -/
def KT (u : Mem) (m : Nat) (key : Int) (s : List Int) : Prop := (0 ≤ key ∧ key < 192) ∧ iv_ u (m + 5) key = (s.length : Int) ∧ TA u (m + 4) (8 * key) s ∧ Tx s
theorem MM.kt {u : Mem} {m i k : Nat} {M : Nat → List KV} {ch : Nat → Int} {p : KV} (h : MM u m M ch) (hm : MF u m) (hi : i < 3) (hk : (M i)[k]? = some p) : KT u m (64 * (i : Int) + (k : Int)) p.1 := by
  obtain ⟨q1, q2, q3, q4, q5, q6⟩ := h.key hm hi hk
  exact ⟨⟨by omega, by omega⟩, q1, q2, q4⟩
theorem c_moctet (l : Launch) (u : Mem) {m : Nat} {key i : Int} {s : List Int} (hm : MF u m) (h : KT u m key s) (h0 : 0 ≤ i) (h1 : i < 2 * (s.length : Int)) : Mt_ l yX13_octet cX13_octet 3 (some .int) 0 0 0 [aR m, aI key, aI i] u (qI fun r v => u = v ∧ r = octL s i) := by
  obtain ⟨⟨k0, k1⟩, -, ta, tx⟩ := h
  have l8 := tx.1
  obtain ⟨e1, e2, e3⟩ := ta.at_ (j := i / 2) (by omega) (by omega)
  refine Mt_of (by decide) (Nat.le_of_ble_eq_true rfl) (fun X ho hX hN hI => ?_)
  subst hX
  show Z X 0 [some (aR m), some (aI key), some (aI i)] [] u 0 0
  refine z_iload_n ho dX13_octet_0 rfl ?_
  refine z_iconst ho dX13_octet_1 ?_
  refine z_irem ho dX13_octet_2 (by omega) (by omega) (by omega) (by omega) ?_
  refine z_if_ne (tgt := 25) ho dX13_octet_3 (by decide) (by unfold rng; omega) (fun c3 => ?_) (fun c3 => ?_)
  · 
    refine z_aload_n ho dX13_octet_25 rfl ?_
    refine gX13_19 ho dX13_octet_26 hm.1 (mget hm.r5 ?_)
    refine z_bipush ho dX13_octet_29 rfl ?_
    refine z_iload_n ho dX13_octet_31 rfl ?_
    refine z_imul ho dX13_octet_32 ?_
    refine z_iload_n ho dX13_octet_33 rfl ?_
    refine z_iconst ho dX13_octet_34 ?_
    refine z_idiv ho dX13_octet_35 (by omega) (by omega) (by omega) (by omega) ?_
    refine z_iadd ho dX13_octet_36 ?_
    refine z_iald ho dX13_octet_37 hm.k4 (by omega) (hm.t4 (by omega)) ?_
    refine z_sipush ho dX13_octet_38 rfl ?_
    refine z_iand ho 8 (by decide) dX13_octet_41 (by decide) ?_
    refine r_I ho dX13_octet_42 (Nat.le_of_ble_eq_true rfl) (Nat.le_of_ble_eq_true rfl) ?_
    refine ⟨rfl, ?_⟩
    unfold octL
    rw [if_neg c3, ← e1]
    rfl
  · 
    refine z_aload_n ho dX13_octet_6 rfl ?_
    refine gX13_19 ho dX13_octet_7 hm.1 (mget hm.r5 ?_)
    refine z_bipush ho dX13_octet_10 rfl ?_
    refine z_iload_n ho dX13_octet_12 rfl ?_
    refine z_imul ho dX13_octet_13 ?_
    refine z_iload_n ho dX13_octet_14 rfl ?_
    refine z_iconst ho dX13_octet_15 ?_
    refine z_idiv ho dX13_octet_16 (by omega) (by omega) (by omega) (by omega) ?_
    refine z_iadd ho dX13_octet_17 ?_
    refine z_iald ho dX13_octet_18 hm.k4 (by omega) (hm.t4 (by omega)) ?_
    refine z_bipush ho dX13_octet_19 rfl ?_
    refine z_ishr ho dX13_octet_21 (by omega) (by omega) (by omega) (by omega) ?_
    refine z_goto (tgt := 42) ho dX13_octet_22 (by decide) ?_
    refine r_I ho dX13_octet_42 (Nat.le_of_ble_eq_true rfl) (Nat.le_of_ble_eq_true rfl) ?_
    refine ⟨rfl, ?_⟩
    unfold octL
    rw [if_pos c3, ← e1]
    rfl
theorem c_mbit (l : Launch) (u : Mem) {m : Nat} {key i : Int} {s : List Int} (hm : MF u m) (h : KT u m key s) (h0 : 0 ≤ i) (h1 : i < 1000000) : Mt_ l yX13_bit cX13_bit 4 (some .int) 0 0 0 [aR m, aI key, aI i] u (qI fun r v => u = v ∧ r = bitL s i) := by
  obtain ⟨⟨k0, k1⟩, hl, ta, tx⟩ := h
  have l8 := tx.1
  refine Mt_of (by decide) (Nat.le_of_ble_eq_true rfl) (fun X ho hX hN hI => ?_)
  subst hX
  show Z X 0 [some (aR m), some (aI key), some (aI i), none] [] u 0 0
  refine z_iload_n ho dX13_bit_0 rfl ?_
  refine z_bipush ho dX13_bit_1 rfl ?_
  refine z_idiv ho dX13_bit_3 (by omega) (by omega) (by omega) (by omega) ?_
  refine z_istore_n ho dX13_bit_4 (Nat.le_of_ble_eq_true rfl) rfl ?_
  refine z_iload_n ho dX13_bit_5 rfl ?_
  refine z_aload_n ho dX13_bit_6 rfl ?_
  refine gX13_22 ho dX13_bit_7 hm.1 (mget hm.r6 ?_)
  refine z_iload_n ho dX13_bit_10 rfl ?_
  refine z_iald ho dX13_bit_11 hm.k5 (by omega) (hm.t5 (by omega)) ?_
  refine z_icmp_lt (tgt := 19) ho dX13_bit_12 (by decide) (by unfold rng; omega) (by rw [hl]; unfold rng; omega) (fun c12 => ?_) (fun c12 => ?_)
  · rw [hl] at c12
    refine z_iload_n ho dX13_bit_19 rfl ?_
    refine z_bipush ho dX13_bit_20 rfl ?_
    refine z_irem ho dX13_bit_22 (by omega) (by omega) (by omega) (by omega) ?_
    refine z_if_ne (tgt := 30) ho dX13_bit_23 (by decide) (by unfold rng; omega) (fun c23 => ?_) (fun c23 => ?_)
    · obtain ⟨e1, e2, e3⟩ := ta.at_ (j := i / 17) (by omega) (by omega)
      refine z_aload_n ho dX13_bit_30 rfl ?_
      refine gX13_19 ho dX13_bit_31 hm.1 (mget hm.r5 ?_)
      refine z_bipush ho dX13_bit_34 rfl ?_
      refine z_iload_n ho dX13_bit_36 rfl ?_
      refine z_imul ho dX13_bit_37 ?_
      refine z_iload_n ho dX13_bit_38 rfl ?_
      refine z_iadd ho dX13_bit_39 ?_
      refine z_iald ho dX13_bit_40 hm.k4 (by omega) (hm.t4 (by omega)) ?_
      refine z_bipush ho dX13_bit_41 rfl ?_
      refine z_iload_n ho dX13_bit_43 rfl ?_
      refine z_bipush ho dX13_bit_44 rfl ?_
      refine z_irem ho dX13_bit_46 (by omega) (by omega) (by omega) (by omega) ?_
      refine z_isub ho dX13_bit_47 ?_
      refine z_ishr ho dX13_bit_48 (by omega) (by omega) (by omega) (by omega) ?_
      refine z_iconst ho dX13_bit_49 ?_
      refine z_iand ho 1 (by decide) dX13_bit_50 (by decide) ?_
      refine r_I ho dX13_bit_51 (Nat.le_of_ble_eq_true rfl) (Nat.le_of_ble_eq_true rfl) ?_
      refine ⟨rfl, ?_⟩
      unfold bitL
      rw [if_neg (by omega), if_neg c23, ← e1]
      rfl
    · 
      refine z_iconst ho dX13_bit_26 ?_
      refine z_goto (tgt := 51) ho dX13_bit_27 (by decide) ?_
      refine r_I ho dX13_bit_51 (Nat.le_of_ble_eq_true rfl) (Nat.le_of_ble_eq_true rfl) ?_
      refine ⟨rfl, ?_⟩
      unfold bitL
      rw [if_neg (by omega), if_pos c23]
  · rw [hl] at c12
    refine z_iconst ho dX13_bit_15 ?_
    refine z_goto (tgt := 51) ho dX13_bit_16 (by decide) ?_
    refine r_I ho dX13_bit_51 (Nat.le_of_ble_eq_true rfl) (Nat.le_of_ble_eq_true rfl) ?_
    refine ⟨rfl, ?_⟩
    unfold bitL
    rw [if_pos (by omega)]
/-- how many of the first n are such -/
noncomputable def cntI (P : Int → Prop) (n : Nat) : Nat := ((List.range n).filter (fun (j : Nat) => @decide (P (j : Int)) (Classical.propDecidable _))).length
theorem cntI_succ (P : Int → Prop) (n : Nat) : (P (n : Int) → cntI P (n + 1) = cntI P n + 1) ∧ (¬ P (n : Int) → cntI P (n + 1) = cntI P n) := by
  unfold cntI
  rw [List.range_succ, List.filter_append, List.length_append]
  constructor
  · intro h; simp [h]
  · intro h; simp [h]
theorem cntI_list {P : Int → Prop} {n : Nat} {L : List Int} (hn : L.Nodup) (hL : ∀ i, i ∈ L ↔ P i) (hr : ∀ i, P i → 0 ≤ i ∧ i < n) : cntI P n = L.length := by
  unfold cntI
  have e : (((List.range n).filter (fun (j : Nat) => @decide (P (j : Int)) (Classical.propDecidable _))).map (fun (j : Nat) => (j : Int))).Perm L := by
    refine (List.perm_ext_iff_of_nodup ?_ hn).mpr (fun i => ?_)
    · refine List.pairwise_map.mpr ((List.nodup_range.filter _).imp (fun {a b} h e => h (by omega)))
    · rw [List.mem_map, hL i]
      constructor
      · rintro ⟨j, hj, rfl⟩
        simpa using (List.mem_filter.mp hj).2
      · intro h
        have := hr i h
        refine ⟨i.toNat, List.mem_filter.mpr ⟨List.mem_range.mpr (by omega), ?_⟩, by omega⟩
        rw [show ((i.toNat : Nat) : Int) = i by omega]
        simpa using h
  rw [← e.length_eq, List.length_map]
theorem c_mdepth (l : Launch) (u : Mem) {m kk : Nat} {M : Nat → List KV} {ch : Nat → Int} {p : KV} {L : List Int} (hm : MF u m) (hK : MM u m M ch) (hk : (M 0)[kk]? = some p) (hn : L.Nodup) (hL : ∀ i, i ∈ L ↔ ∃ q ∈ M 0, fdf q.1 p.1 i) : Mt_ l yX13_depth cX13_depth 4 (some .int) 1 0 0 [aR m, aI (kk : Int)] u (qI fun r v => Cg m u v [] [18] ∧ r = L.length) := by
  have kt := hK.kt hm (by decide) hk
  rw [show (64 * ((0 : Nat) : Int) + (kk : Int)) = (kk : Int) by omega] at kt
  obtain ⟨g1, g2, g3, g4, g5⟩ := hK 0 (by decide)
  have g1 : iv_ u (m + 2) 0 = ((M 0).length : Int) := g1
  have kkl := (List.getElem?_eq_some_iff.mp hk).1
  refine Mt_of (by decide) (Nat.le_of_ble_eq_true rfl) (fun X ho hX hN hI => ?_)
  subst hX
  show Z X 0 [some (aR m), some (aI  (kk : Int)), none, none] [] u 0 0
  -- the array then
  have st : ∀ f : Int → Int, ∃ w : Mem, w = upA u (m + 18) f ∧ Cg m u w [] [18] := fun f => ⟨_, rfl, upA_cg (Cg.rf m u _ _) (by decide) (by decide) (by decide)⟩
  have l3 : ∀ (f : Int → Int) (P : Int → Prop), (∀ j, 0 ≤ j → j < 140 → (f j = 1 ∧ P j) ∨ (f j = 0 ∧ ¬ P j)) → (∀ j, P j ↔ ∃ q ∈ M 0, fdf q.1 p.1 j) → ∀ (d n : Nat), d + n = 140 → Z X 82 [some (aR m), some (aI (kk : Int)), some (aI (cntI P n : Nat)), some (aI (n : Int))] [] (upA u (m + 18) f) 0 0 := by
    intro f P hf hP d
    have hm2 : MF (upA u (m + 18) f) m := hm
    have ef : iv_ (upA u (m + 18) f) (m + 18) = f := upA_s _ _ _
    induction d with
    | zero =>
      intro n hn'
      refine z_iload_n ho dX13_depth_82 rfl ?_
      refine z_sipush ho dX13_depth_83 rfl ?_
      refine z_icmp_ge (tgt := 112) ho dX13_depth_86 (by decide) (by unfold rng; omega) (by unfold rng; omega) (fun c86 => ?_) (fun c86 => ?_)
      · 
        refine z_iload_n ho dX13_depth_112 rfl ?_
        refine r_I ho dX13_depth_113 (Nat.le_of_ble_eq_true rfl) (Nat.le_of_ble_eq_true rfl) ?_
        refine ⟨upA_cg (Cg.rf m u _ _) (by decide) (by decide) (by decide), ?_⟩
        rw [cntI_list hn (fun i => by rw [hL i, hP i]) (fun i hi => by
          obtain ⟨q, q1, q2⟩ := (hP i).mp hi
          obtain ⟨j, hj, hjq⟩ := List.mem_iff_getElem.mp q1
          have := fdf_hi (g5 j q (by rw [List.getElem?_eq_getElem hj, hjq])).2.2.2.1 kt.2.2.2 q2
          exact ⟨q2.1, by omega⟩)]
      · omega
    | succ d ih =>
      intro n hn'
      have nx := ih (n + 1) (by omega)
      obtain ⟨n1, n2⟩ := cntI_succ P n
      have t104 : ∀ c : Int, (cntI P n : Int) + c = (cntI P (n + 1) : Nat) → Z X 104 [some (aR m), some (aI (kk : Int)), some (aI (cntI P n : Nat)), some (aI (n : Int))] [aI c, aI (cntI P n : Nat)] (upA u (m + 18) f) 0 0 := fun c hc => by
        refine z_iadd ho dX13_depth_104 ?_
        refine z_istore_n ho dX13_depth_105 (Nat.le_of_ble_eq_true rfl) rfl ?_
        refine z_iinc ho dX13_depth_106 rfl rfl ?_
        refine z_goto (tgt := 82) ho dX13_depth_109 (by decide) ?_
        rw [hc]
        exact nx
      have hfn := hf (n : Int) (by omega) (by omega)
      refine z_iload_n ho dX13_depth_82 rfl ?_
      refine z_sipush ho dX13_depth_83 rfl ?_
      refine z_icmp_ge (tgt := 112) ho dX13_depth_86 (by decide) (by unfold rng; omega) (by unfold rng; omega) (fun c86 => ?_) (fun c86 => ?_)
      · omega
      · 
        refine z_iload_n ho dX13_depth_89 rfl ?_
        refine z_aload_n ho dX13_depth_90 rfl ?_
        refine gX13_66 ho dX13_depth_91 hm2.1 (mget hm2.r21 ?_)
        refine z_iload_n ho dX13_depth_94 rfl ?_
        refine z_zald ho dX13_depth_95 hm2.k18 (by omega) (hm2.t18 (by omega)) ?_
        refine z_if_eq (tgt := 103) ho dX13_depth_96 (by decide) (by rw [ef]; unfold rng; omega) (fun c96 => ?_) (fun c96 => ?_)
        · rw [ef] at c96
          refine z_iconst ho dX13_depth_103 ?_
          exact t104 0 (by rw [n2 (by rcases hfn with z | z; (· omega); exact z.2)]; omega)
        · rw [ef] at c96
          refine z_iconst ho dX13_depth_99 ?_
          refine z_goto (tgt := 104) ho dX13_depth_100 (by decide) ?_
          exact t104 1 (by rw [n1 (by rcases hfn with z | z; (· exact z.2); omega)]; omega)
  have l2 : ∀ (d k : Nat) (o3 : Option AV) (f : Int → Int) (P : Int → Prop), d + k = (M 0).length → (∀ j, 0 ≤ j → j < 140 → (f j = 1 ∧ P j) ∨ (f j = 0 ∧ ¬ P j)) → (∀ j, P j ↔ ∃ (i : Nat) (q : KV), i < k ∧ (M 0)[i]? = some q ∧ fdf q.1 p.1 j) → Z X 24 [some (aR m), some (aI (kk : Int)), some (aI (k : Int)), o3] [] (upA u (m + 18) f) 0 0 := by
    intro d
    induction d with
    | zero =>
      intro k o3 f P hk' hf hP
      have hm2 : MF (upA u (m + 18) f) m := hm
      have e2 : iv_ (upA u (m + 18) f) (m + 2) = iv_ u (m + 2) := upA_o (by omega)
      refine z_iload_n ho dX13_depth_24 rfl ?_
      refine z_aload_n ho dX13_depth_25 rfl ?_
      refine gX13_13 ho dX13_depth_26 hm2.1 (mget hm2.r3 ?_)
      refine z_iconst ho dX13_depth_29 ?_
      refine z_iald ho dX13_depth_30 hm2.k2 (by omega) (hm2.t2 (by omega)) ?_
      refine z_icmp_ge (tgt := 78) ho dX13_depth_31 (by decide) (by unfold rng; omega) (by rw [e2, g1]; unfold rng; omega) (fun c31 => ?_) (fun c31 => ?_)
      · 
        refine z_iconst ho dX13_depth_78 ?_
        refine z_istore_n ho dX13_depth_79 (Nat.le_of_ble_eq_true rfl) rfl ?_
        refine z_iconst ho dX13_depth_80 ?_
        refine z_istore_n ho dX13_depth_81 (Nat.le_of_ble_eq_true rfl) rfl ?_
        refine l3 f P hf (fun j => ?_) 140 0 rfl
        rw [hP j]
        constructor
        · rintro ⟨i, q, -, h2, h3⟩
          exact ⟨q, List.mem_of_getElem? h2, h3⟩
        · rintro ⟨q, h1, h2⟩
          obtain ⟨i, hi, hiq⟩ := List.mem_iff_getElem.mp h1
          exact ⟨i, q, by omega, by rw [List.getElem?_eq_getElem hi, hiq], h2⟩
      · rw [e2, g1] at c31; omega
    | succ d ih =>
      intro k o3 f P hk' hf hP
      have hkp : (M 0)[k]? = some (M 0)[k] := List.getElem?_eq_getElem (by omega)
      generalize (M 0)[k] = q at hkp
      have hm2 : MF (upA u (m + 18) f) m := hm
      have hK2 : MM (upA u (m + 18) f) m M ch := hK.cg (upA_cg (Cg.rf m u [] [18]) (by decide) (by decide) (by decide)) (by decide)
      have kt2 := hK2.kt hm2 (by decide) hk
      have kq2 := hK2.kt hm2 (by decide) hkp
      rw [show (64 * ((0 : Nat) : Int) + (kk : Int)) = (kk : Int) by omega] at kt2
      rw [show (64 * ((0 : Nat) : Int) + (k : Int)) = (k : Int) by omega] at kq2
      have e2 : iv_ (upA u (m + 18) f) (m + 2) = iv_ u (m + 2) := upA_o (by omega)
      refine z_iload_n ho dX13_depth_24 rfl ?_
      refine z_aload_n ho dX13_depth_25 rfl ?_
      refine gX13_13 ho dX13_depth_26 hm2.1 (mget hm2.r3 ?_)
      refine z_iconst ho dX13_depth_29 ?_
      refine z_iald ho dX13_depth_30 hm2.k2 (by omega) (hm2.t2 (by omega)) ?_
      refine z_icmp_ge (tgt := 78) ho dX13_depth_31 (by decide) (by unfold rng; omega) (by rw [e2, g1]; unfold rng; omega) (fun c31 => ?_) (fun c31 => ?_)
      · rw [e2, g1] at c31; omega
      · 
        refine z_iload_n ho dX13_depth_34 rfl ?_
        refine z_iload_n ho dX13_depth_35 rfl ?_
        refine z_icmp_ne (tgt := 42) ho dX13_depth_36 (by decide) (by unfold rng; omega) (by unfold rng; omega) (fun c36 => ?_) (fun c36 => ?_)
        · have hne : p.1 ≠ q.1 := fun e => by
            have l1 : kk < ((M 0).map Prod.fst).length := by rw [List.length_map]; exact (List.getElem?_eq_some_iff.mp hk).1
            have := (List.getElem?_inj (j := k) l1 g4).mp (by rw [List.getElem?_map, List.getElem?_map, hk, hkp]; simp [e])
            omega
          obtain ⟨i0, hi0, hi1⟩ := fdf_ex kt.2.2.2 kq2.2.2.2 hne
          have inn : ∀ (a b : Nat), (a : Int) + b = i0 → Z X 44 [some (aR m), some (aI (kk : Int)), some (aI (k : Int)), some (aI (b : Int))] [] (upA u (m + 18) f) 0 0 := by
            intro a
            have b01 := bitL_01 p.1
            have b01' := bitL_01 q.1
            induction a with
            | zero =>
              intro b hb
              have hbi : (b : Int) = i0 := by omega
              refine z_aload_n ho dX13_depth_44 rfl ?_
              refine z_iload_n ho dX13_depth_45 rfl ?_
              refine z_iload_n ho dX13_depth_46 rfl ?_
              refine kX13_184 ho hN (c_mbit _ _ hm2 kt2 (by omega) (by omega)) dX13_depth_47 hm2.1 (Nat.le_of_ble_eq_true rfl) (Nat.le_of_ble_eq_true rfl) (Nat.le_of_ble_eq_true rfl) (Nat.le_of_ble_eq_true rfl) (fun x47 u47 h47 => ?_)
              obtain ⟨rfl, rfl⟩ := h47
              refine z_aload_n ho dX13_depth_50 rfl ?_
              refine z_iload_n ho dX13_depth_51 rfl ?_
              refine z_iload_n ho dX13_depth_52 rfl ?_
              refine kX13_184 ho hN (c_mbit _ _ hm2 kq2 (by omega) (by omega)) dX13_depth_53 hm2.1 (Nat.le_of_ble_eq_true rfl) (Nat.le_of_ble_eq_true rfl) (Nat.le_of_ble_eq_true rfl) (Nat.le_of_ble_eq_true rfl) (fun x53 u53 h53 => ?_)
              obtain ⟨rfl, rfl⟩ := h53
              refine z_icmp_ne (tgt := 65) ho dX13_depth_56 (by decide) (by have := b01 (b : Int); unfold rng; omega) (by have := b01' (b : Int); unfold rng; omega) (fun c56 => ?_) (fun c56 => ?_)
              · have h0 := hi0.1
                refine z_aload_n ho dX13_depth_65 rfl ?_
                refine gX13_66 ho dX13_depth_66 hm2.1 (mget hm2.r21 ?_)
                refine z_iload_n ho dX13_depth_69 rfl ?_
                refine z_iconst ho dX13_depth_70 ?_
                refine z_zast ho dX13_depth_71 hm2.k18 (by omega) (hm2.t18 (by omega)) (by omega) ?_
                rw [upA_w]
                refine z_iinc ho dX13_depth_72 rfl rfl ?_
                refine z_goto (tgt := 24) ho dX13_depth_75 (by decide) ?_
                refine ih (k + 1) _ _ (fun j => P j ∨ j = i0) (by omega) (fun j j0 j1 => ?_) (fun j => ?_)
                · by_cases z : j = (b : Int)
                  · left; rw [if_pos z]; exact ⟨rfl, Or.inr (by omega)⟩
                  · rw [if_neg z]
                    rcases hf j j0 j1 with ⟨y1, y2⟩ | ⟨y1, y2⟩
                    · exact Or.inl ⟨y1, Or.inl y2⟩
                    · exact Or.inr ⟨y1, fun x => by rcases x with x | x; (· exact y2 x); omega⟩
                · rw [hP j]
                  constructor
                  · rintro (⟨i, r, h1, h2, h3⟩ | h)
                    · exact ⟨i, r, by omega, h2, h3⟩
                    · rw [h]; exact ⟨k, q, by omega, hkp, hi0.symm⟩
                  · rintro ⟨i, r, h1, h2, h3⟩
                    rcases lt_or_eq' h1 with z | z
                    · exact Or.inl ⟨i, r, z, h2, h3⟩
                    · rw [z, hkp] at h2
                      cases h2
                      exact Or.inr (h3.symm.uniq hi0)
              · exact absurd c56 (by rw [hbi]; exact hi0.2.2)
            | succ a iha =>
              intro b hb
              refine z_aload_n ho dX13_depth_44 rfl ?_
              refine z_iload_n ho dX13_depth_45 rfl ?_
              refine z_iload_n ho dX13_depth_46 rfl ?_
              refine kX13_184 ho hN (c_mbit _ _ hm2 kt2 (by omega) (by omega)) dX13_depth_47 hm2.1 (Nat.le_of_ble_eq_true rfl) (Nat.le_of_ble_eq_true rfl) (Nat.le_of_ble_eq_true rfl) (Nat.le_of_ble_eq_true rfl) (fun x47 u47 h47 => ?_)
              obtain ⟨rfl, rfl⟩ := h47
              refine z_aload_n ho dX13_depth_50 rfl ?_
              refine z_iload_n ho dX13_depth_51 rfl ?_
              refine z_iload_n ho dX13_depth_52 rfl ?_
              refine kX13_184 ho hN (c_mbit _ _ hm2 kq2 (by omega) (by omega)) dX13_depth_53 hm2.1 (Nat.le_of_ble_eq_true rfl) (Nat.le_of_ble_eq_true rfl) (Nat.le_of_ble_eq_true rfl) (Nat.le_of_ble_eq_true rfl) (fun x53 u53 h53 => ?_)
              obtain ⟨rfl, rfl⟩ := h53
              refine z_icmp_ne (tgt := 65) ho dX13_depth_56 (by decide) (by have := b01 (b : Int); unfold rng; omega) (by have := b01' (b : Int); unfold rng; omega) (fun c56 => ?_) (fun c56 => ?_)
              · exact absurd (hi0.2.1 (b : Int) (by omega) (by omega)) c56
              · 
                refine z_iinc ho dX13_depth_59 rfl rfl ?_
                refine z_goto (tgt := 44) ho dX13_depth_62 (by decide) ?_
                exact iha (b + 1) (by omega)
          have h0 := hi0.1
          refine z_iconst ho dX13_depth_42 ?_
          refine z_istore_n ho dX13_depth_43 (Nat.le_of_ble_eq_true rfl) rfl ?_
          exact inn i0.toNat 0 (by omega)
        · 
          refine z_goto (tgt := 72) ho dX13_depth_39 (by decide) ?_
          refine z_iinc ho dX13_depth_72 rfl rfl ?_
          refine z_goto (tgt := 24) ho dX13_depth_75 (by decide) ?_
          have hkk : k = kk := by omega
          subst hkk
          rw [hk] at hkp
          cases hkp
          refine ih (k + 1) _ f P (by omega) hf (fun j => ?_)
          rw [hP j]
          constructor
          · rintro ⟨i, r, h1, h2, h3⟩
            exact ⟨i, r, by omega, h2, h3⟩
          · rintro ⟨i, r, h1, h2, h3⟩
            rcases lt_or_eq' h1 with z | z
            · exact ⟨i, r, z, h2, h3⟩
            · rw [z, hk] at h2
              cases h2
              exact absurd rfl (fdf_ne h3)
  have l1 : ∀ (d n : Nat), d + n = 140 → Z X 2 [some (aR m), some (aI (kk : Int)), some (aI (n : Int)), none] [] (upA u (m + 18) (fun j => if 0 ≤ j ∧ j < n then 0 else iv_ u (m + 18) j)) 0 0 := by
    intro d
    induction d with
    | zero =>
      intro n hn'
      have hm2 : MF (upA u (m + 18) (fun j => if 0 ≤ j ∧ j < n then 0 else iv_ u (m + 18) j)) m := hm
      refine z_iload_n ho dX13_depth_2 rfl ?_
      refine z_sipush ho dX13_depth_3 rfl ?_
      refine z_icmp_ge (tgt := 22) ho dX13_depth_6 (by decide) (by unfold rng; omega) (by unfold rng; omega) (fun c6 => ?_) (fun c6 => ?_)
      · 
        refine z_iconst ho dX13_depth_22 ?_
        refine z_istore_n ho dX13_depth_23 (Nat.le_of_ble_eq_true rfl) rfl ?_
        refine l2 (M 0).length 0 _ _ (fun _ => False) rfl (fun j j0 j1 => Or.inr ⟨by rw [if_pos (by omega)], fun z => z⟩) (fun j => ⟨fun z => z.elim, ?_⟩)
        rintro ⟨i, q, h1, -⟩
        omega
      · omega
    | succ d ih =>
      intro n hn'
      have nx := ih (n + 1) (by omega)
      have hm2 : MF (upA u (m + 18) (fun j => if 0 ≤ j ∧ j < n then 0 else iv_ u (m + 18) j)) m := hm
      refine z_iload_n ho dX13_depth_2 rfl ?_
      refine z_sipush ho dX13_depth_3 rfl ?_
      refine z_icmp_ge (tgt := 22) ho dX13_depth_6 (by decide) (by unfold rng; omega) (by unfold rng; omega) (fun c6 => ?_) (fun c6 => ?_)
      · omega
      · 
        refine z_aload_n ho dX13_depth_9 rfl ?_
        refine gX13_66 ho dX13_depth_10 hm2.1 (mget hm2.r21 ?_)
        refine z_iload_n ho dX13_depth_13 rfl ?_
        refine z_iconst ho dX13_depth_14 ?_
        refine z_zast ho dX13_depth_15 hm2.k18 (by omega) (hm2.t18 (by omega)) (by omega) ?_
        refine z_iinc ho dX13_depth_16 rfl rfl ?_
        refine z_goto (tgt := 2) ho dX13_depth_19 (by decide) ?_
        rw [upA_w]
        have ef : (fun j : Int => if j = (n : Int) then 0 else if 0 ≤ j ∧ j < n then 0 else iv_ u (m + 18) j) = (fun j => if 0 ≤ j ∧ j < ((n + 1 : Nat) : Int) then 0 else iv_ u (m + 18) j) := by
          funext j
          by_cases z : j = (n : Int)
          · rw [if_pos z, if_pos (by omega)]
          · rw [if_neg z]
            by_cases y : 0 ≤ j ∧ j < n
            · rw [if_pos y, if_pos (by omega)]
            · rw [if_neg y, if_neg (by omega)]
        rw [ef]
        exact nx
  have k0 := l1 140 0 rfl
  have ef : (fun j : Int => if 0 ≤ j ∧ j < ((0 : Nat) : Int) then 0 else iv_ u (m + 18) j) = iv_ u (m + 18) := funext fun j => by rw [if_neg (by omega)]
  rw [ef, upA_r] at k0
  refine z_iconst ho dX13_depth_0 ?_
  refine z_istore_n ho dX13_depth_1 (Nat.le_of_ble_eq_true rfl) rfl ?_
  exact k0
