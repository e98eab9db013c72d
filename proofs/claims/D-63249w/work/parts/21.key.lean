set_option maxRecDepth 100000
/-! ===== Math.min, max, Integer.compare ===== -/
theorem c_icmp (l : Launch) (u : Mem) {x y : Int} (hx : rng x) (hy : rng y) : Mt_ l yJ7_compare cJ7_compare 2 (some .int) 0 0 0 [aI x, aI y] u (qI fun r u' => u = u' ∧ r = if x < y then -1 else if x = y then 0 else 1) := by
  refine Mt_of (by decide) (Nat.le_of_ble_eq_true rfl) (fun X ho hX hN hI => ?_)
  subst hX
  show Z X 0 [some (aI x), some (aI y)] [] u 0 0
  refine z_iload_n ho dJ7_compare_0 rfl ?_
  refine z_iload_n ho dJ7_compare_1 rfl ?_
  refine z_icmp_ge (tgt := 9) ho dJ7_compare_2 (by decide) hx hy (fun c2 => ?_) (fun c2 => ?_)
  · 
    refine z_iload_n ho dJ7_compare_9 rfl ?_
    refine z_iload_n ho dJ7_compare_10 rfl ?_
    refine z_icmp_ne (tgt := 18) ho dJ7_compare_11 (by decide) hx hy (fun c11 => ?_) (fun c11 => ?_)
    · 
      refine z_iconst ho dJ7_compare_18 ?_
      refine r_I ho dJ7_compare_19 (Nat.le_of_ble_eq_true rfl) (Nat.le_of_ble_eq_true rfl) ?_
      exact ⟨rfl, by rw [if_neg (by omega), if_neg c11]⟩
    · 
      refine z_iconst ho dJ7_compare_14 ?_
      refine z_goto (tgt := 19) ho dJ7_compare_15 (by decide) ?_
      refine r_I ho dJ7_compare_19 (Nat.le_of_ble_eq_true rfl) (Nat.le_of_ble_eq_true rfl) ?_
      exact ⟨rfl, by rw [if_neg (by omega), if_pos c11]⟩
  · 
    refine z_iconst ho dJ7_compare_5 ?_
    refine z_goto (tgt := 19) ho dJ7_compare_6 (by decide) ?_
    refine r_I ho dJ7_compare_19 (Nat.le_of_ble_eq_true rfl) (Nat.le_of_ble_eq_true rfl) ?_
    exact ⟨rfl, (if_pos c2).symm⟩
/-! ===== keys ===== -/
/-- a key: its characters lie in the next cell -/
def Ky (u : Mem) (a : Nat) : Prop := isK_ u a ∧ rv_ u a 0 = a + 1 ∧ kd_ u (a + 1) = 101 ∧ ln_ u (a + 1) = 8 ∧ 0 ≤ iv_ u a 1 ∧ iv_ u a 1 ≤ 8 ∧ ∀ i : Int, 0 ≤ i → i < 8 → 0 ≤ iv_ u (a + 1) i ∧ iv_ u (a + 1) i < 65536
/-- the text of a key -/
def tx (u : Mem) (a : Nat) : List Int := seg (iv_ u (a + 1)) (iv_ u a 1).toNat
theorem c_compareTo (l : Launch) (u : Mem) {a b : Nat} (ha : Ky u a) (hb : Ky u b) : Mt_ l yX2_compareTo cX2_compareTo 4 (some .int) 1 0 0 [aR a, aR b] u (qI fun r u' => u = u' ∧ r = cmpT (tx u a) (tx u b)) := by
  refine Mt_of (by decide) (Nat.le_of_ble_eq_true rfl) (fun X ho hX hN hI => ?_)
  subst hX
  show Z X 0 [some (aR a), some (aR b), none, none] [] u 0 0
  obtain ⟨ka, ra, ca, la, na, na8, va⟩ := ha
  obtain ⟨kb, rb, cb, lb, nb, nb8, vb⟩ := hb
  refine z_aload_n ho dX2_compareTo_0 rfl ?_
  refine gX2_15 ho dX2_compareTo_1 ka ?_
  refine z_aload_n ho dX2_compareTo_4 rfl ?_
  refine gX2_15 ho dX2_compareTo_5 kb ?_
  refine z_mmin ho hN q400 dX2_compareTo_8 (by unfold rng; omega) (by unfold rng; omega) (Nat.le_of_ble_eq_true rfl) (Nat.le_of_ble_eq_true rfl) (Nat.le_of_ble_eq_true rfl) (Nat.le_of_ble_eq_true rfl) ?_
  refine z_istore_n ho dX2_compareTo_11 (Nat.le_of_ble_eq_true rfl) rfl ?_
  refine z_iconst ho dX2_compareTo_12 ?_
  refine z_istore_n ho dX2_compareTo_13 (Nat.le_of_ble_eq_true rfl) rfl ?_
  generalize hm : min (iv_ u a 1) (iv_ u b 1) = m
  refine up_ind (m := m) (P := fun i => 0 ≤ i → (∀ j : Int, 0 ≤ j → j < i → iv_ u (a + 1) j = iv_ u (b + 1) j) → Z X 14 [some (aR a), some (aR b), some (aI m), some (aI i)] [] u 0 0) (fun i him ih h0 he => ?_) 0 (by omega) (by omega) (fun j _ _ => by omega)
  have := va i; have := vb i
  refine z_iload_n ho dX2_compareTo_14 rfl ?_
  refine z_iload_n ho dX2_compareTo_15 rfl ?_
  refine z_icmp_ge (tgt := 61) ho dX2_compareTo_16 (by decide) (by unfold rng; omega) (by unfold rng; omega) (fun c16 => ?_) (fun c16 => ?_)
  · 
    refine z_aload_n ho dX2_compareTo_61 rfl ?_
    refine gX2_15 ho dX2_compareTo_62 ka ?_
    refine z_aload_n ho dX2_compareTo_65 rfl ?_
    refine gX2_15 ho dX2_compareTo_66 kb ?_
    refine kX2_25 ho hN (c_icmp _ _ (by unfold rng; omega) (by unfold rng; omega)) dX2_compareTo_69 (Nat.le_of_ble_eq_true rfl) (Nat.le_of_ble_eq_true rfl) (Nat.le_of_ble_eq_true rfl) (Nat.le_of_ble_eq_true rfl) (fun x69 u69 h69 => ?_)
    obtain ⟨rfl, rfl⟩ := h69
    refine r_I ho dX2_compareTo_72 (Nat.le_of_ble_eq_true rfl) (Nat.le_of_ble_eq_true rfl) ?_
    refine ⟨rfl, ?_⟩
    have hi : i = m := by omega
    subst hi
    unfold tx
    by_cases h1 : iv_ u a 1 < iv_ u b 1
    · rw [if_pos h1, cmpT_lt (seg_lt_len _ (fun j h0 h1 => he j h0 (by omega)) (by omega))]
    · by_cases h2 : iv_ u a 1 = iv_ u b 1
      · rw [if_neg h1, if_pos h2, cmpT_eq]
        rw [h2]
        exact seg_ext (fun j h0 h1 => he j h0 (by omega))
      · rw [if_neg h1, if_neg h2, cmpT_gt (seg_lt_len _ (fun j h0 h1 => (he j h0 (by omega)).symm) (by omega))]
  · 
    refine z_aload_n ho dX2_compareTo_19 rfl ?_
    refine gX2_9 ho dX2_compareTo_20 ka ?_
    refine z_iload_n ho dX2_compareTo_23 rfl ?_
    refine z_cald ho dX2_compareTo_24 (by rw [ra]; exact ca) (by omega) (by rw [ra, la]; omega) ?_
    refine z_aload_n ho dX2_compareTo_25 rfl ?_
    refine gX2_9 ho dX2_compareTo_26 kb ?_
    refine z_iload_n ho dX2_compareTo_29 rfl ?_
    refine z_cald ho dX2_compareTo_30 (by rw [rb]; exact cb) (by omega) (by rw [rb, lb]; omega) ?_
    refine z_icmp_eq (tgt := 55) ho dX2_compareTo_31 (by decide) (by rw [ra]; unfold rng; omega) (by rw [rb]; unfold rng; omega) (fun c31 => ?_) (fun c31 => ?_)
    · 
      refine z_iinc ho dX2_compareTo_55 rfl rfl ?_
      refine z_goto (tgt := 14) ho dX2_compareTo_58 (by decide) ?_
      exact ih c16 (by omega) (fun j h0 h1 => by by_cases e : j = i; (· rw [ra, rb] at c31; rw [e]; exact c31); exact he j h0 (by omega))
    · 
      refine z_aload_n ho dX2_compareTo_34 rfl ?_
      refine gX2_9 ho dX2_compareTo_35 ka ?_
      refine z_iload_n ho dX2_compareTo_38 rfl ?_
      refine z_cald ho dX2_compareTo_39 (by rw [ra]; exact ca) (by omega) (by rw [ra, la]; omega) ?_
      refine z_aload_n ho dX2_compareTo_40 rfl ?_
      refine gX2_9 ho dX2_compareTo_41 kb ?_
      refine z_iload_n ho dX2_compareTo_44 rfl ?_
      refine z_cald ho dX2_compareTo_45 (by rw [rb]; exact cb) (by omega) (by rw [rb, lb]; omega) ?_
      refine z_icmp_ge (tgt := 53) ho dX2_compareTo_46 (by decide) (by rw [ra]; unfold rng; omega) (by rw [rb]; unfold rng; omega) (fun c46 => ?_) (fun c46 => ?_)
      · 
        refine z_iconst ho dX2_compareTo_53 ?_
        refine r_I ho dX2_compareTo_54 (Nat.le_of_ble_eq_true rfl) (Nat.le_of_ble_eq_true rfl) ?_
        rw [ra, rb] at c46 c31
        refine ⟨rfl, (cmpT_gt ?_).symm⟩
        refine seg_lt_at i.toNat (fun j h0 h1 => (he j h0 (by omega)).symm) (by omega) (by omega) ?_
        rw [Int.toNat_of_nonneg h0]
        omega
      · 
        refine z_iconst ho dX2_compareTo_49 ?_
        refine z_goto (tgt := 54) ho dX2_compareTo_50 (by decide) ?_
        refine r_I ho dX2_compareTo_54 (Nat.le_of_ble_eq_true rfl) (Nat.le_of_ble_eq_true rfl) ?_
        rw [ra, rb] at c46 c31
        refine ⟨rfl, (cmpT_lt ?_).symm⟩
        refine seg_lt_at i.toNat (fun j h0 h1 => he j h0 (by omega)) (by omega) (by omega) ?_
        rw [Int.toNat_of_nonneg h0]
        omega
/-! bits and bytes of texts -/
def ch (s : List Int) (i : Int) : Int := s.getD i.toNat 0
def bitL (s : List Int) (i : Int) : Int := if (s.length : Int) ≤ i / 17 then 0 else if i % 17 = 0 then 1 else ch s (i / 17) / 2 ^ (16 - i % 17).toNat % 2
def octL (s : List Int) (i : Int) : Int := if i % 2 = 0 then ch s (i / 2) / 256 else ch s (i / 2) % 256
/-- a text that a key can hold -/
def Tx (s : List Int) : Prop := s.length ≤ 8 ∧ ∀ c ∈ s, 0 ≤ c ∧ c < 65536
theorem ch_seg {f : Int → Int} {n : Nat} {i : Int} (h0 : 0 ≤ i) (h1 : i < n) : ch (seg f n) i = f i := by
  unfold ch
  rw [List.getD_eq_getElem?_getD, seg_get (by omega), Option.getD_some, Int.toNat_of_nonneg h0]
theorem Ky.tx_len {u : Mem} {a : Nat} (h : Ky u a) : ((tx u a).length : Int) = iv_ u a 1 := by
  unfold tx
  rw [seg_len]
  exact Int.toNat_of_nonneg h.2.2.2.2.1
theorem Ky.tx_ch {u : Mem} {a : Nat} (h : Ky u a) {i : Int} (h0 : 0 ≤ i) (h1 : i < iv_ u a 1) : ch (tx u a) i = iv_ u (a + 1) i := by
  have := h.2.2.2.2.1
  exact ch_seg h0 (by omega)
theorem Ky.Tx {u : Mem} {a : Nat} (h : Ky u a) : Tx (tx u a) := by
  obtain ⟨ka, ra, ca, la, na, na8, va⟩ := h
  refine ⟨by unfold tx; rw [seg_len]; omega, fun c hc => ?_⟩
  unfold tx seg at hc
  obtain ⟨j, hj, rfl⟩ := List.mem_map.mp hc
  have := List.mem_range.mp hj
  exact va j (by omega) (by omega)
theorem c_bytes (l : Launch) (u : Mem) {a : Nat} (ha : Ky u a) : Mt_ l yX2_bytes cX2_bytes 1 (some .int) 0 0 0 [aR a] u (qI fun r u' => u = u' ∧ r = 2 * ((tx u a).length : Int)) := by
  have hl := ha.tx_len
  obtain ⟨ka, ra, ca, la, na, na8, va⟩ := ha
  refine Mt_of (by decide) (Nat.le_of_ble_eq_true rfl) (fun X ho hX hN hI => ?_)
  subst hX
  show Z X 0 [some (aR a)] [] u 0 0
  refine z_iconst ho dX2_bytes_0 ?_
  refine z_aload_n ho dX2_bytes_1 rfl ?_
  refine gX2_15 ho dX2_bytes_2 ka ?_
  refine z_imul ho dX2_bytes_5 ?_
  refine r_I ho dX2_bytes_6 (Nat.le_of_ble_eq_true rfl) (Nat.le_of_ble_eq_true rfl) ?_
  exact ⟨rfl, by rw [hl]⟩
theorem c_bit (l : Launch) (u : Mem) {a : Nat} {i : Int} (ha : Ky u a) (h0 : 0 ≤ i) (h1 : i < 2147483648) : Mt_ l yX2_bit cX2_bit 4 (some .int) 0 0 0 [aR a, aI i] u (qI fun r u' => u = u' ∧ r = bitL (tx u a) i) := by
  have hl := ha.tx_len
  have hch := fun h1 h2 => ha.tx_ch (i := i / 17) h1 h2
  obtain ⟨ka, ra, ca, la, na, na8, va⟩ := ha
  refine Mt_of (by decide) (Nat.le_of_ble_eq_true rfl) (fun X ho hX hN hI => ?_)
  subst hX
  show Z X 0 [some (aR a), some (aI i), none, none] [] u 0 0
  refine z_iload_n ho dX2_bit_0 rfl ?_
  refine z_bipush ho dX2_bit_1 rfl ?_
  refine z_idiv ho dX2_bit_3 (by omega) (by omega) (by omega) (by omega) ?_
  refine z_istore_n ho dX2_bit_4 (Nat.le_of_ble_eq_true rfl) rfl ?_
  refine z_iload_n ho dX2_bit_5 rfl ?_
  refine z_bipush ho dX2_bit_6 rfl ?_
  refine z_irem ho dX2_bit_8 (by omega) (by omega) (by omega) (by omega) ?_
  refine z_istore_n ho dX2_bit_9 (Nat.le_of_ble_eq_true rfl) rfl ?_
  refine z_iload_n ho dX2_bit_10 rfl ?_
  refine z_aload_n ho dX2_bit_11 rfl ?_
  refine gX2_15 ho dX2_bit_12 ka ?_
  refine z_icmp_lt (tgt := 22) ho dX2_bit_15 (by decide) (by unfold rng; omega) (by unfold rng; omega) (fun c15 => ?_) (fun c15 => ?_)
  · 
    refine z_iload_n ho dX2_bit_22 rfl ?_
    refine z_if_ne (tgt := 30) ho dX2_bit_23 (by decide) (by unfold rng; omega) (fun c23 => ?_) (fun c23 => ?_)
    · 
      have hv := va (i / 17) (by omega) (by omega)
      refine z_aload_n ho dX2_bit_30 rfl ?_
      refine gX2_9 ho dX2_bit_31 ka ?_
      refine z_iload_n ho dX2_bit_34 rfl ?_
      refine z_cald ho dX2_bit_35 (by rw [ra]; exact ca) (by omega) (by rw [ra, la]; omega) ?_
      refine z_bipush ho dX2_bit_36 rfl ?_
      refine z_iload_n ho dX2_bit_38 rfl ?_
      refine z_isub ho dX2_bit_39 ?_
      refine z_ishr ho dX2_bit_40 (by rw [ra]; omega) (by rw [ra]; omega) (by omega) (by omega) ?_
      refine z_iconst ho dX2_bit_41 ?_
      refine z_iand ho 1 (by decide) dX2_bit_42 (by decide) ?_
      refine r_I ho dX2_bit_43 (Nat.le_of_ble_eq_true rfl) (Nat.le_of_ble_eq_true rfl) ?_
      refine ⟨rfl, ?_⟩
      unfold bitL
      rw [if_neg (by rw [hl]; omega), if_neg c23, hch (by omega) c15, ra]
      rfl
    · 
      refine z_iconst ho dX2_bit_26 ?_
      refine z_goto (tgt := 43) ho dX2_bit_27 (by decide) ?_
      refine r_I ho dX2_bit_43 (Nat.le_of_ble_eq_true rfl) (Nat.le_of_ble_eq_true rfl) ?_
      refine ⟨rfl, ?_⟩
      unfold bitL
      rw [if_neg (by rw [hl]; omega), if_pos c23]
  · 
    refine z_iconst ho dX2_bit_18 ?_
    refine z_goto (tgt := 43) ho dX2_bit_19 (by decide) ?_
    refine r_I ho dX2_bit_43 (Nat.le_of_ble_eq_true rfl) (Nat.le_of_ble_eq_true rfl) ?_
    refine ⟨rfl, ?_⟩
    unfold bitL
    rw [if_pos (by rw [hl]; omega)]
theorem c_octet (l : Launch) (u : Mem) {a : Nat} {i : Int} (ha : Ky u a) (h0 : 0 ≤ i) (h1 : i < 2 * ((tx u a).length : Int)) : Mt_ l yX2_octet cX2_octet 2 (some .int) 0 0 0 [aR a, aI i] u (qI fun r u' => u = u' ∧ r = octL (tx u a) i) := by
  have hl := ha.tx_len
  rw [hl] at h1
  have hch := ha.tx_ch (i := i / 2) (by omega) (by omega)
  obtain ⟨ka, ra, ca, la, na, na8, va⟩ := ha
  have hv := va (i / 2) (by omega) (by omega)
  refine Mt_of (by decide) (Nat.le_of_ble_eq_true rfl) (fun X ho hX hN hI => ?_)
  subst hX
  show Z X 0 [some (aR a), some (aI i)] [] u 0 0
  refine z_iload_n ho dX2_octet_0 rfl ?_
  refine z_iconst ho dX2_octet_1 ?_
  refine z_irem ho dX2_octet_2 (by omega) (by omega) (by omega) (by omega) ?_
  refine z_if_ne (tgt := 20) ho dX2_octet_3 (by decide) (by unfold rng; omega) (fun c3 => ?_) (fun c3 => ?_)
  · 
    refine z_aload_n ho dX2_octet_20 rfl ?_
    refine gX2_9 ho dX2_octet_21 ka ?_
    refine z_iload_n ho dX2_octet_24 rfl ?_
    refine z_iconst ho dX2_octet_25 ?_
    refine z_idiv ho dX2_octet_26 (by omega) (by omega) (by omega) (by omega) ?_
    refine z_cald ho dX2_octet_27 (by rw [ra]; exact ca) (by omega) (by rw [ra, la]; omega) ?_
    refine z_sipush ho dX2_octet_28 rfl ?_
    refine z_iand ho 8 (by decide) dX2_octet_31 (by decide) ?_
    refine r_I ho dX2_octet_32 (Nat.le_of_ble_eq_true rfl) (Nat.le_of_ble_eq_true rfl) ?_
    refine ⟨rfl, ?_⟩
    unfold octL
    rw [if_neg c3, hch, ra]
    rfl
  · 
    refine z_aload_n ho dX2_octet_6 rfl ?_
    refine gX2_9 ho dX2_octet_7 ka ?_
    refine z_iload_n ho dX2_octet_10 rfl ?_
    refine z_iconst ho dX2_octet_11 ?_
    refine z_idiv ho dX2_octet_12 (by omega) (by omega) (by omega) (by omega) ?_
    refine z_cald ho dX2_octet_13 (by rw [ra]; exact ca) (by omega) (by rw [ra, la]; omega) ?_
    refine z_bipush ho dX2_octet_14 rfl ?_
    refine z_ishr ho dX2_octet_16 (by rw [ra]; omega) (by rw [ra]; omega) (by omega) (by omega) ?_
    refine z_goto (tgt := 32) ho dX2_octet_17 (by decide) ?_
    refine r_I ho dX2_octet_32 (Nat.le_of_ble_eq_true rfl) (Nat.le_of_ble_eq_true rfl) ?_
    refine ⟨rfl, ?_⟩
    unfold octL
    rw [if_pos c3, hch, ra]
    rfl
