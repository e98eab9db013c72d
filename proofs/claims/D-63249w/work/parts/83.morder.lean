set_option maxRecDepth 100000
/-! ===== KeyHallModel: texts in rows ===== -/
theorem ord_at {f g : Int → Int} {n m i : Nat} (he : ∀ j : Int, 0 ≤ j → j < i → f j = g j) (hn : i < n) (hm : i < m) (hne : f i ≠ g i) : (f i - g i < 0 ↔ seg f n < seg g m) ∧ (f i - g i = 0 ↔ seg f n = seg g m) := by
  rcases Int.lt_or_gt_of_ne hne with h | h
  · have := seg_lt_at i he hn hm h
    exact ⟨⟨fun _ => this, fun _ => by omega⟩, ⟨fun z => by omega, fun z => by rw [z] at this; exact absurd this (li_irr _)⟩⟩
  · have := seg_lt_at i (fun j h0 h1 => (he j h0 h1).symm) hm hn h
    exact ⟨⟨fun z => by omega, fun z => absurd z (li_as this)⟩, ⟨fun z => by omega, fun z => by rw [z] at this; exact absurd this (li_irr _)⟩⟩
theorem ord_len {f g : Int → Int} {n m i : Nat} (he : ∀ j : Int, 0 ≤ j → j < i → f j = g j) (h : (i = n ∧ n ≤ m) ∨ (i = m ∧ m ≤ n)) : ((n : Int) - m < 0 ↔ seg f n < seg g m) ∧ ((n : Int) - m = 0 ↔ seg f n = seg g m) := by
  rcases Nat.lt_trichotomy n m with q | q | q
  · have := seg_lt_len n (fun j h0 h1 => he j h0 (by omega)) q
    exact ⟨⟨fun _ => this, fun _ => by omega⟩, ⟨fun z => by omega, fun z => by rw [z] at this; exact absurd this (li_irr _)⟩⟩
  · have : seg f n = seg g m := by rw [q]; exact seg_ext (fun j h0 h1 => he j h0 (by omega))
    exact ⟨⟨fun z => by omega, fun z => by rw [this] at z; exact absurd z (li_irr _)⟩, ⟨fun _ => this, fun _ => by omega⟩⟩
  · have := seg_lt_len m (fun j h0 h1 => (he j h0 (by omega)).symm) q
    exact ⟨⟨fun z => by omega, fun z => absurd z (li_as this)⟩, ⟨fun z => by omega, fun z => by rw [z] at this; exact absurd this (li_irr _)⟩⟩
/-- a text in an array -/
def TA (u : Mem) (a : Nat) (i : Int) (s : List Int) : Prop := kd_ u a = 100 ∧ 0 ≤ i ∧ i + s.length ≤ ln_ u a ∧ sub_ (iv_ u a) i s.length = s ∧ s.length ≤ 200 ∧ ∀ c ∈ s, 0 ≤ c ∧ c < 65536
theorem TA.at_ {u : Mem} {a : Nat} {i j : Int} {s : List Int} (h : TA u a i s) (h0 : 0 ≤ j) (h1 : j < s.length) : iv_ u a (i + j) = ch s j ∧ 0 ≤ iv_ u a (i + j) ∧ iv_ u a (i + j) < 65536 := by
  have e := congrArg (fun l => l[j.toNat]?) h.2.2.2.1
  simp only [sub_get (show j.toNat < s.length by omega)] at e
  rw [Int.toNat_of_nonneg h0] at e
  have hc := h.2.2.2.2.2 _ (List.mem_of_getElem? e.symm)
  refine ⟨?_, hc⟩
  unfold ch
  rw [List.getD_eq_getElem?_getD, ← e]
  rfl
/-- the order of two texts as a number's sign -/
def So (r : Int) (s t : List Int) : Prop := (-100000 < r ∧ r < 100000) ∧ (r < 0 ↔ s < t) ∧ (r = 0 ↔ s = t)
theorem So.rg {r : Int} {s t : List Int} (h : So r s t) : rng r := by obtain ⟨h1, -⟩ := h; unfold rng; omega
theorem c_order (l : Launch) (u : Mem) {a b : Nat} {i k : Int} {s t : List Int} (ha : TA u a i s) (hb : TA u b k t) : Mt_ l yX13_order cX13_order 7 (some .int) 0 0 0 [aR a, aI i, aI s.length, aR b, aI k, aI t.length] u (qI fun r v => u = v ∧ So r s t) := by
  have ra : ∀ j : Nat, j < s.length → 0 ≤ iv_ u a (i + j) ∧ iv_ u a (i + j) < 65536 := fun j h1 => (ha.at_ (by omega) (by omega)).2
  have rb : ∀ j : Nat, j < t.length → 0 ≤ iv_ u b (k + j) ∧ iv_ u b (k + j) < 65536 := fun j h1 => (hb.at_ (by omega) (by omega)).2
  obtain ⟨ka, a0, al, as, an, -⟩ := ha
  obtain ⟨kb, b0, bl, bs, bn, -⟩ := hb
  refine Mt_of (by decide) (Nat.le_of_ble_eq_true rfl) (fun X ho hX hN hI => ?_)
  subst hX
  show Z X 0 [some (aR a), some (aI i), some (aI s.length), some (aR b), some (aI k), some (aI t.length), none] [] u 0 0
  have fin : ∀ j : Nat, (∀ y : Int, 0 ≤ y → y < j → iv_ u a (i + y) = iv_ u b (k + y)) → ((j = s.length ∧ s.length ≤ t.length) ∨ (j = t.length ∧ t.length ≤ s.length)) → Z X 53 [some (aR a), some (aI i), some (aI s.length), some (aR b), some (aI k), some (aI t.length), some (aI (j : Int))] [] u 0 0 := fun j he h => by
    refine z_iload_n ho dX13_order_53 rfl ?_
    refine z_iload ho dX13_order_54 rfl ?_
    refine z_isub ho dX13_order_56 ?_
    refine r_I ho dX13_order_57 (Nat.le_of_ble_eq_true rfl) (Nat.le_of_ble_eq_true rfl) ?_
    have := ord_len (f := fun j => iv_ u a (i + j)) (g := fun j => iv_ u b (k + j)) he h
    unfold sub_ at as bs
    rw [as, bs] at this
    exact ⟨rfl, ⟨by omega, by omega⟩, this⟩
  have key : ∀ (d j : Nat), d + j = s.length → j ≤ t.length → (∀ y : Int, 0 ≤ y → y < j → iv_ u a (i + y) = iv_ u b (k + y)) → Z X 3 [some (aR a), some (aI i), some (aI s.length), some (aR b), some (aI k), some (aI t.length), some (aI (j : Int))] [] u 0 0 := by
    intro d
    induction d with
    | zero =>
      intro j hj hjt he
      refine z_iload ho dX13_order_3 rfl ?_
      refine z_iload_n ho dX13_order_5 rfl ?_
      refine z_icmp_ge (tgt := 53) ho dX13_order_6 (by decide) (by unfold rng; omega) (by unfold rng; omega) (fun c6 => ?_) (fun c6 => ?_)
      · exact fin j he (Or.inl ⟨by omega, by omega⟩)
      · omega
    | succ d ih =>
      intro j hj hjt he
      refine z_iload ho dX13_order_3 rfl ?_
      refine z_iload_n ho dX13_order_5 rfl ?_
      refine z_icmp_ge (tgt := 53) ho dX13_order_6 (by decide) (by unfold rng; omega) (by unfold rng; omega) (fun c6 => ?_) (fun c6 => ?_)
      · omega
      · 
        refine z_iload ho dX13_order_9 rfl ?_
        refine z_iload ho dX13_order_11 rfl ?_
        refine z_icmp_ge (tgt := 53) ho dX13_order_13 (by decide) (by unfold rng; omega) (by unfold rng; omega) (fun c13 => ?_) (fun c13 => ?_)
        · exact fin j he (Or.inr ⟨by omega, by omega⟩)
        · have r1 := ra j (by omega)
          have r2 := rb j (by omega)
          refine z_aload_n ho dX13_order_16 rfl ?_
          refine z_iload_n ho dX13_order_17 rfl ?_
          refine z_iload ho dX13_order_18 rfl ?_
          refine z_iadd ho dX13_order_20 ?_
          refine z_iald ho dX13_order_21 ka (by omega) (by omega) ?_
          refine z_aload_n ho dX13_order_22 rfl ?_
          refine z_iload ho dX13_order_23 rfl ?_
          refine z_iload ho dX13_order_25 rfl ?_
          refine z_iadd ho dX13_order_27 ?_
          refine z_iald ho dX13_order_28 kb (by omega) (by omega) ?_
          refine z_icmp_eq (tgt := 47) ho dX13_order_29 (by decide) (by unfold rng; omega) (by unfold rng; omega) (fun c29 => ?_) (fun c29 => ?_)
          · 
            refine z_iinc ho dX13_order_47 rfl rfl ?_
            refine z_goto (tgt := 3) ho dX13_order_50 (by decide) ?_
            have := ih (j + 1) (by omega) (by omega) (fun y h0 h1 => by
              rcases Int.lt_or_eq_of_le (show y ≤ j by omega) with z | z
              · exact he y h0 z
              · rw [z]; exact c29)
            exact this
          · 
            refine z_aload_n ho dX13_order_32 rfl ?_
            refine z_iload_n ho dX13_order_33 rfl ?_
            refine z_iload ho dX13_order_34 rfl ?_
            refine z_iadd ho dX13_order_36 ?_
            refine z_iald ho dX13_order_37 ka (by omega) (by omega) ?_
            refine z_aload_n ho dX13_order_38 rfl ?_
            refine z_iload ho dX13_order_39 rfl ?_
            refine z_iload ho dX13_order_41 rfl ?_
            refine z_iadd ho dX13_order_43 ?_
            refine z_iald ho dX13_order_44 kb (by omega) (by omega) ?_
            refine z_isub ho dX13_order_45 ?_
            refine r_I ho dX13_order_46 (Nat.le_of_ble_eq_true rfl) (Nat.le_of_ble_eq_true rfl) ?_
            have := ord_at (f := fun j => iv_ u a (i + j)) (g := fun j => iv_ u b (k + j)) he (show j < s.length by omega) (show j < t.length by omega) c29
            unfold sub_ at as bs
            rw [as, bs] at this
            exact ⟨rfl, ⟨by omega, by omega⟩, this⟩
  refine z_iconst ho dX13_order_0 ?_
  refine z_istore ho dX13_order_1 (Nat.le_of_ble_eq_true rfl) rfl ?_
  exact key s.length 0 rfl (Nat.zero_le _) (fun y h0 h1 => by omega)
theorem TA.take {u : Mem} {a : Nat} {i : Int} {s : List Int} (h : TA u a i s) {n : Nat} (hn : n ≤ s.length) : TA u a i (s.take n) := by
  obtain ⟨h1, h2, h3, h4, h5, h6⟩ := h
  have e : (s.take n).length = n := by rw [List.length_take]; omega
  refine ⟨h1, h2, by rw [e]; omega, ?_, by rw [e]; omega, fun c hc => h6 c (List.mem_of_mem_take hc)⟩
  rw [e, ← sub_take (iv_ u a) i hn, h4]
theorem c_begins (l : Launch) (u : Mem) {a b : Nat} {i k : Int} {s t : List Int} (ha : TA u a i s) (hb : TA u b k t) : Mt_ l yX13_begins cX13_begins 6 (some .boolean) 1 0 0 [aR a, aI i, aI s.length, aR b, aI k, aI t.length] u (qI fun r v => u = v ∧ qB r (t <+: s)) := by
  have l1 := ha.2.2.2.2.1
  have l2 := hb.2.2.2.2.1
  refine Mt_of (by decide) (Nat.le_of_ble_eq_true rfl) (fun X ho hX hN hI => ?_)
  subst hX
  show Z X 0 [some (aR a), some (aI i), some (aI s.length), some (aR b), some (aI k), some (aI t.length)] [] u 0 0
  have no : ¬ t <+: s → Z X 25 [some (aR a), some (aI i), some (aI s.length), some (aR b), some (aI k), some (aI t.length)] [] u 0 0 := fun hn => by
    refine z_iconst ho dX13_begins_25 ?_
    refine r_Z ho dX13_begins_26 (Nat.le_of_ble_eq_true rfl) (Nat.le_of_ble_eq_true rfl) ?_ ?_
    · exact Or.inl rfl
    · exact ⟨rfl, Or.inr ⟨rfl, hn⟩⟩
  refine z_iload ho dX13_begins_0 rfl ?_
  refine z_iload_n ho dX13_begins_2 rfl ?_
  refine z_icmp_gt (tgt := 25) ho dX13_begins_3 (by decide) (by unfold rng; omega) (by unfold rng; omega) (fun c3 => ?_) (fun c3 => ?_)
  · exact no (fun z => by have := z.length_le; omega)
  · have ht := ha.take (n := t.length) (by omega)
    have e : (s.take t.length).length = t.length := by rw [List.length_take]; omega
    have hc := c_order (La_ X) u ht hb
    rw [e] at hc
    refine z_aload_n ho dX13_begins_6 rfl ?_
    refine z_iload_n ho dX13_begins_7 rfl ?_
    refine z_iload ho dX13_begins_8 rfl ?_
    refine z_aload_n ho dX13_begins_10 rfl ?_
    refine z_iload ho dX13_begins_11 rfl ?_
    refine z_iload ho dX13_begins_13 rfl ?_
    refine kX13_106 ho hN (hc) dX13_begins_15 (Nat.le_of_ble_eq_true rfl) (Nat.le_of_ble_eq_true rfl) (Nat.le_of_ble_eq_true rfl) (Nat.le_of_ble_eq_true rfl) (fun x15 u15 h15 => ?_)
    obtain ⟨rfl, hs⟩ := h15
    refine z_if_ne (tgt := 25) ho dX13_begins_18 (by decide) hs.rg (fun c18 => ?_) (fun c18 => ?_)
    · exact no (fun z => c18 (hs.2.2.mpr (List.prefix_iff_eq_take.mp z).symm))
    · 
      refine z_iconst ho dX13_begins_21 ?_
      refine z_goto (tgt := 26) ho dX13_begins_22 (by decide) ?_
      refine r_Z ho dX13_begins_26 (Nat.le_of_ble_eq_true rfl) (Nat.le_of_ble_eq_true rfl) ?_ ?_
      · exact Or.inr rfl
      · exact ⟨rfl, Or.inl ⟨rfl, List.prefix_iff_eq_take.mpr (hs.2.2.mp c18).symm⟩⟩
theorem c_orderOf (l : Launch) (u : Mem) {m b : Nat} {key k : Int} {s t : List Int} (hm : MF u m) (h0 : 0 ≤ key) (h1 : key < 192) (hl : iv_ u (m + 5) key = s.length) (ha : TA u (m + 4) (8 * key) s) (hb : TA u b k t) : Mt_ l yX13_orderOf cX13_orderOf 5 (some .int) 1 0 0 [aR m, aI key, aR b, aI k, aI t.length] u (qI fun r v => u = v ∧ So r s t) := by
  refine Mt_of (by decide) (Nat.le_of_ble_eq_true rfl) (fun X ho hX hN hI => ?_)
  subst hX
  show Z X 0 [some (aR m), some (aI key), some (aR b), some (aI k), some (aI t.length)] [] u 0 0
  refine z_aload_n ho dX13_orderOf_0 rfl ?_
  refine gX13_19 ho dX13_orderOf_1 hm.1 (mget hm.r5 ?_)
  refine z_bipush ho dX13_orderOf_4 rfl ?_
  refine z_iload_n ho dX13_orderOf_6 rfl ?_
  refine z_imul ho dX13_orderOf_7 ?_
  refine z_aload_n ho dX13_orderOf_8 rfl ?_
  refine gX13_22 ho dX13_orderOf_9 hm.1 (mget hm.r6 ?_)
  refine z_iload_n ho dX13_orderOf_12 rfl ?_
  refine z_iald ho dX13_orderOf_13 hm.k5 (by omega) (hm.t5 (by omega)) ?_
  rw [hl]
  refine z_aload_n ho dX13_orderOf_14 rfl ?_
  refine z_iload_n ho dX13_orderOf_15 rfl ?_
  refine z_iload ho dX13_orderOf_16 rfl ?_
  refine kX13_106 ho hN (c_order _ _ ha hb) dX13_orderOf_18 (Nat.le_of_ble_eq_true rfl) (Nat.le_of_ble_eq_true rfl) (Nat.le_of_ble_eq_true rfl) (Nat.le_of_ble_eq_true rfl) (fun x18 u18 h18 => ?_)
  obtain ⟨rfl, hs⟩ := h18
  refine r_I ho dX13_orderOf_21 (Nat.le_of_ble_eq_true rfl) (Nat.le_of_ble_eq_true rfl) ?_
  exact ⟨rfl, hs⟩
