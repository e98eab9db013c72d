set_option maxRecDepth 100000
/-! ===== Rope.part ===== -/
theorem c_part0 (l : Launch) (u : Mem) {f t : Int} : Mt_ l yX18_part cX18_part 4 (some (.object "KeyHall$Rope")) 0 0 0 [aR 0, aI f, aI t] u (qR fun x v => u = v ∧ x = 0) := by
  refine Mt_of (by decide) (Nat.le_of_ble_eq_true rfl) (fun X ho hX hN hI => ?_)
  subst hX
  show Z X 0 [some (aR  0), some (aI f), some (aI t), none] [] u 0 0
  refine z_aload_n ho dX18_part_0 rfl ?_
  refine z_ifnull (tgt := 9) ho dX18_part_1 (by decide) (fun c1 => ?_) (fun c1 => ?_)
  · 
    refine z_null ho dX18_part_9 ?_
    refine r_R ho dX18_part_10 (Nat.le_of_ble_eq_true rfl) (Nat.le_of_ble_eq_true rfl) ?_
    exact ⟨rfl, rfl⟩
  · exact absurd rfl c1
theorem c_partN (l : Launch) (u : Mem) {r : Nat} {f t : Int} (h : t ≤ f) (hf : rng f) (ht : rng t) : Mt_ l yX18_part cX18_part 4 (some (.object "KeyHall$Rope")) 0 0 0 [aR r, aI f, aI t] u (qR fun x v => u = v ∧ x = 0) := by
  refine Mt_of (by decide) (Nat.le_of_ble_eq_true rfl) (fun X ho hX hN hI => ?_)
  subst hX
  show Z X 0 [some (aR r), some (aI f), some (aI t), none] [] u 0 0
  refine z_aload_n ho dX18_part_0 rfl ?_
  refine z_ifnull (tgt := 9) ho dX18_part_1 (by decide) (fun c1 => ?_) (fun c1 => ?_)
  · 
    refine z_null ho dX18_part_9 ?_
    refine r_R ho dX18_part_10 (Nat.le_of_ble_eq_true rfl) (Nat.le_of_ble_eq_true rfl) ?_
    exact ⟨rfl, rfl⟩
  · 
    refine z_iload_n ho dX18_part_4 rfl ?_
    refine z_iload_n ho dX18_part_5 rfl ?_
    refine z_icmp_lt (tgt := 11) ho dX18_part_6 (by decide) hf ht (fun c6 => ?_) (fun c6 => ?_)
    · omega
    · 
      refine z_null ho dX18_part_9 ?_
      refine r_R ho dX18_part_10 (Nat.le_of_ble_eq_true rfl) (Nat.le_of_ble_eq_true rfl) ?_
      exact ⟨rfl, rfl⟩
/-- the whole of it -/
theorem c_partW (l : Launch) (u : Mem) {E n r : Nat} {T : List Int} {t : Int} (h : RT E u n r T) (ht : t = T.length) (hl : T.length ≤ 240) : Mt_ l yX18_part cX18_part 4 (some (.object "KeyHall$Rope")) 0 0 0 [aR r, aI 0, aI t] u (qR fun x v => u = v ∧ x = r) := by
  have f := h.kd
  have hp := List.length_pos_iff.mpr f.2.2
  refine Mt_of (by decide) (Nat.le_of_ble_eq_true rfl) (fun X ho hX hN hI => ?_)
  subst hX
  show Z X 0 [some (aR r), some (aI  0), some (aI t), none] [] u 0 0
  refine z_wf (fun hw => ?_)
  have hr0 := (hw.1 r (by omega)).2
  refine z_aload_n ho dX18_part_0 rfl ?_
  refine z_ifnull (tgt := 9) ho dX18_part_1 (by decide) (fun c1 => ?_) (fun c1 => ?_)
  · exact absurd c1 hr0
  · 
    refine z_iload_n ho dX18_part_4 rfl ?_
    refine z_iload_n ho dX18_part_5 rfl ?_
    refine z_icmp_lt (tgt := 11) ho dX18_part_6 (by decide) (by unfold rng; omega) (by unfold rng; omega) (fun c6 => ?_) (fun c6 => ?_)
    · 
      refine z_iload_n ho dX18_part_11 rfl ?_
      refine z_if_gt (tgt := 25) ho dX18_part_12 (by decide) (by unfold rng; omega) (fun c12 => ?_) (fun c12 => ?_)
      · exact absurd c12 (by decide)
      · 
        refine z_iload_n ho dX18_part_15 rfl ?_
        refine z_aload_n ho dX18_part_16 rfl ?_
        refine gX18_13 ho dX18_part_17 f.1 ?_
        rw [f.2.1]
        refine z_icmp_lt (tgt := 25) ho dX18_part_20 (by decide) (by unfold rng; omega) (by unfold rng; omega) (fun c20 => ?_) (fun c20 => ?_)
        · omega
        · 
          refine z_aload_n ho dX18_part_23 rfl ?_
          refine r_R ho dX18_part_24 (Nat.le_of_ble_eq_true rfl) (Nat.le_of_ble_eq_true rfl) ?_
          exact ⟨rfl, rfl⟩
    · omega
theorem sub_app1 {A B : List Int} {f t : Nat} (h : t ≤ A.length) : ((A ++ B).take t).drop f = (A.take t).drop f := by rw [List.take_append_of_le_length h]
theorem sub_app2 {A B : List Int} {f t : Nat} (h : A.length ≤ f) (ht : f ≤ t) : ((A ++ B).take t).drop f = (B.take (t - A.length)).drop (f - A.length) := by
  rw [List.take_append, List.drop_append, List.drop_eq_nil_of_le (by simp; omega), List.nil_append, List.length_take]
  congr 1
  omega
theorem sub_app3 {A B : List Int} {f t : Nat} (h : f ≤ A.length) (ht : A.length ≤ t) : ((A ++ B).take t).drop f = (A.take A.length).drop f ++ (B.take (t - A.length)).drop 0 := by
  rw [List.take_append, List.take_of_length_le ht, List.drop_append_of_le_length h, List.take_of_length_le (Nat.le_refl _), List.drop_zero]
theorem c_part (l : Launch) {E : Nat} : ∀ (n : Nat) (u : Mem) (r : Nat) (T : List Int) (f t : Int), n ≤ 12 → RT E u n r T → 0 ≤ f → 0 ≤ t → t ≤ T.length → f ≤ T.length → (f = 0 ∨ t = T.length) → T.length ≤ 120 → E ≤ sz_ u →
    Mt_ l yX18_part cX18_part 4 (some (.object "KeyHall$Rope")) (n + 8) (91 * n) (545 * n) [aR r, aI f, aI t] u (qR fun x v => RO E v x ((T.take t.toNat).drop f.toNat) ∧ sz_ u ≤ sz_ v ∧ ∀ b, b < sz_ u → Sm u v b) := by
  intro n
  induction n with
  | zero => intro u r T f t _ h; exact h.elim
  | succ n ih =>
    intro u r T f t hn h hf0 ht0 ht hf hside hl hE
    have fT := h.kd
    have hp := List.length_pos_iff.mpr fT.2.2
    have hall := h
    obtain ⟨kr, hlen, hne, hcase⟩ := h
    refine Mt_of (by decide) (Nat.le_of_ble_eq_true rfl) (fun X ho hX hN hI => ?_)
    subst hX
    show Z X 0 [some (aR r), some (aI f), some (aI t), none] [] u 0 0
    refine z_wf (fun hw => ?_)
    have hr0 := (hw.1 r (by omega)).2
    have frO : ∀ {v w : Mem}, Wf v → (∀ b, b < sz_ v → Sm v w b) → ∀ {x : Nat} {S : List Int}, RO E v x S → RO E w x S := fun {v w} hv hs {x S} hx => RO.frame (fun a ha => hs a (hv.1 a (by omega)).1) (fun a ha _ => hs a (hv.1 a (by omega)).1) hx
    have frT : ∀ {v w : Mem}, Wf v → (∀ b, b < sz_ v → Sm v w b) → ∀ {m x : Nat} {S : List Int}, RT E v m x S → RT E w m x S := fun {v w} hv hs {m x S} hx => RT.frame (fun a ha => hs a (hv.1 a (by omega)).1) (fun a ha _ => hs a (hv.1 a (by omega)).1) _ _ _ hx
    have none_ : t ≤ f → Z X 9 [some (aR r), some (aI f), some (aI t), none] [] u 0 0 := fun hle => by
      refine z_null ho dX18_part_9 ?_
      refine r_R ho dX18_part_10 (by omega) (by omega) ?_
      exact ⟨Or.inl ⟨rfl, List.drop_eq_nil_of_le (by rw [List.length_take]; omega)⟩, Nat.le_refl _, fun b _ => Sm.rf u b⟩
    have at25 : f < t → ¬ (f = 0 ∧ t = T.length) → Z X 25 [some (aR r), some (aI f), some (aI t), none] [] u 0 0 := fun hlt hnw => by
      refine z_aload_n ho dX18_part_25 rfl ?_
      refine gX18_7 ho dX18_part_26 kr ?_
      refine z_ifnull (tgt := 61) ho dX18_part_29 (by decide) (fun c29 => ?_) (fun c29 => ?_)
      · -- two ropes
        obtain ⟨d1, d2, A, B, hAB, hA, hB⟩ := hcase.resolve_left (fun z => z.1 c29)
        have fA := hA.kd
        have fB := hB.kd
        have hTl : T.length = A.length + B.length := by rw [hAB]; simp
        have pA := List.length_pos_iff.mpr fA.2.2
        have pB := List.length_pos_iff.mpr fB.2.2
        have roA : RO E u (rv_ u r 3) A := Or.inr (RT.mono _ _ _ _ hA (by omega))
        have roB : RO E u (rv_ u r 4) B := Or.inr (RT.mono _ _ _ _ hB (by omega))
        refine z_aload_n ho dX18_part_61 rfl ?_
        refine gX18_20 ho dX18_part_62 kr ?_
        refine gX18_13 ho dX18_part_65 fA.1 ?_
        rw [fA.2.1]
        refine z_istore_n ho dX18_part_68 (Nat.le_of_ble_eq_true rfl) rfl ?_
        refine z_iload_n ho dX18_part_69 rfl ?_
        refine z_iload_n ho dX18_part_70 rfl ?_
        refine z_icmp_ge (tgt := 90) ho dX18_part_71 (by decide) (by unfold rng; omega) (by unfold rng; omega) (fun c71 => ?_) (fun c71 => ?_)
        · -- behind the middle
          refine z_null ho dX18_part_90 ?_
          refine z_iload_n ho dX18_part_91 rfl ?_
          refine z_iload_n ho dX18_part_92 rfl ?_
          refine z_icmp_le (tgt := 116) ho dX18_part_93 (by decide) (by unfold rng; omega) (by unfold rng; omega) (fun c93 => ?_) (fun c93 => ?_)
          · omega
          · 
            refine z_aload_n ho dX18_part_96 rfl ?_
            refine gX18_24 ho dX18_part_97 kr ?_
            refine z_iconst ho dX18_part_100 ?_
            refine z_iload_n ho dX18_part_101 rfl ?_
            refine z_iload_n ho dX18_part_102 rfl ?_
            refine z_isub ho dX18_part_103 ?_
            refine z_mmax ho hN q1213 dX18_part_104 (by unfold rng; omega) (by unfold rng; omega) (Nat.le_of_ble_eq_true rfl) (Nat.le_of_ble_eq_true rfl) (Nat.le_of_ble_eq_true rfl) (Nat.le_of_ble_eq_true rfl) ?_
            refine z_iload_n ho dX18_part_107 rfl ?_
            refine z_iload_n ho dX18_part_108 rfl ?_
            refine z_isub ho dX18_part_109 ?_
            refine kX18_58 ho hN (ih u _ B (max 0 (f - A.length)) (t - A.length) (by omega) hB (by omega) (by omega) (by omega) (by omega) (by omega) (by omega) hE) dX18_part_110 (by omega) (Nat.le_of_ble_eq_true rfl) (by omega) (by omega) (fun x110 u110 h110 => ?_)
            obtain ⟨g1, g2, g3⟩ := h110
            refine z_goto (tgt := 117) ho dX18_part_113 (by decide) ?_
            refine kX18_62 ho hN (c_joinN _ _ (Or.inl rfl)) dX18_part_117 (by omega) (Nat.le_of_ble_eq_true rfl) (by omega) (by omega) (fun x117 u117 h117 => ?_)
            obtain ⟨rfl, hr⟩ := h117
            refine r_R ho dX18_part_120 (by omega) (by omega) ?_
            rw [if_pos rfl] at hr
            rw [hr, hAB, sub_app2 (by omega) (by omega)]
            rw [show (max 0 (f - (A.length : Int))).toNat = f.toNat - A.length by omega, show (t - (A.length : Int)).toNat = t.toNat - A.length by omega] at g1
            exact ⟨g1, g2, g3⟩
        · by_cases htm : t ≤ A.length
          · -- ahead of the middle
            have hf00 : f = 0 := by omega
            refine z_aload_n ho dX18_part_74 rfl ?_
            refine gX18_20 ho dX18_part_75 kr ?_
            refine z_iload_n ho dX18_part_78 rfl ?_
            refine z_iload_n ho dX18_part_79 rfl ?_
            refine z_iload_n ho dX18_part_80 rfl ?_
            refine z_mmin ho hN q1216 dX18_part_81 (by unfold rng; omega) (by unfold rng; omega) (Nat.le_of_ble_eq_true rfl) (Nat.le_of_ble_eq_true rfl) (Nat.le_of_ble_eq_true rfl) (Nat.le_of_ble_eq_true rfl) ?_
            rw [show min t (A.length : Int) = t by omega]
            refine kX18_58 ho hN (ih u _ A f t (by omega) hA hf0 ht0 htm (by omega) (Or.inl hf00) (by omega) hE) dX18_part_84 (by omega) (Nat.le_of_ble_eq_true rfl) (by omega) (by omega) (fun x84 u84 h84 => ?_)
            obtain ⟨g1, g2, g3⟩ := h84
            refine z_goto (tgt := 91) ho dX18_part_87 (by decide) ?_
            refine z_iload_n ho dX18_part_91 rfl ?_
            refine z_iload_n ho dX18_part_92 rfl ?_
            refine z_icmp_le (tgt := 116) ho dX18_part_93 (by decide) (by unfold rng; omega) (by unfold rng; omega) (fun c93 => ?_) (fun c93 => ?_)
            · 
              refine z_null ho dX18_part_116 ?_
              refine kX18_62 ho hN (c_joinN _ _ (Or.inr rfl)) dX18_part_117 (by omega) (Nat.le_of_ble_eq_true rfl) (by omega) (by omega) (fun x117 u117 h117 => ?_)
              obtain ⟨rfl, hr⟩ := h117
              refine r_R ho dX18_part_120 (by omega) (by omega) ?_
              have hr' : x117 = x84 := by rw [hr]; split <;> omega
              rw [hr', hAB, sub_app1 (by omega)]
              exact ⟨g1, g2, g3⟩
            · omega
          · -- over the middle
            have e1 : min t (A.length : Int) = A.length := by omega
            have e2 : max 0 (f - (A.length : Int)) = 0 := by omega
            rcases hside with hs | hs
            · subst hs
              refine z_aload_n ho dX18_part_74 rfl ?_
              refine gX18_20 ho dX18_part_75 kr ?_
              refine z_iload_n ho dX18_part_78 rfl ?_
              refine z_iload_n ho dX18_part_79 rfl ?_
              refine z_iload_n ho dX18_part_80 rfl ?_
              refine z_mmin ho hN q1216 dX18_part_81 (by unfold rng; omega) (by unfold rng; omega) (Nat.le_of_ble_eq_true rfl) (Nat.le_of_ble_eq_true rfl) (Nat.le_of_ble_eq_true rfl) (Nat.le_of_ble_eq_true rfl) ?_
              rw [e1]
              refine kX18_58 ho hN (c_partW _ _ hA rfl (by omega)) dX18_part_84 (by omega) (Nat.le_of_ble_eq_true rfl) (by omega) (by omega) (fun x84 u84 h84 => ?_)
              obtain ⟨rfl, rfl⟩ := h84
              refine z_goto (tgt := 91) ho dX18_part_87 (by decide) ?_
              refine z_iload_n ho dX18_part_91 rfl ?_
              refine z_iload_n ho dX18_part_92 rfl ?_
              refine z_icmp_le (tgt := 116) ho dX18_part_93 (by decide) (by unfold rng; omega) (by unfold rng; omega) (fun c93 => ?_) (fun c93 => ?_)
              · omega
              · 
                refine z_aload_n ho dX18_part_96 rfl ?_
                refine gX18_24 ho dX18_part_97 kr ?_
                refine z_iconst ho dX18_part_100 ?_
                refine z_iload_n ho dX18_part_101 rfl ?_
                refine z_iload_n ho dX18_part_102 rfl ?_
                refine z_isub ho dX18_part_103 ?_
                refine z_mmax ho hN q1213 dX18_part_104 (by unfold rng; omega) (by unfold rng; omega) (Nat.le_of_ble_eq_true rfl) (Nat.le_of_ble_eq_true rfl) (Nat.le_of_ble_eq_true rfl) (Nat.le_of_ble_eq_true rfl) ?_
                rw [e2]
                refine z_iload_n ho dX18_part_107 rfl ?_
                refine z_iload_n ho dX18_part_108 rfl ?_
                refine z_isub ho dX18_part_109 ?_
                refine kX18_58 ho hN (ih u _ B 0 (t - A.length) (by omega) hB (by omega) (by omega) (by omega) (by omega) (Or.inl rfl) (by omega) hE) dX18_part_110 (by omega) (Nat.le_of_ble_eq_true rfl) (by omega) (by omega) (fun x110 u110 h110 => ?_)
                obtain ⟨g1, g2, g3⟩ := h110
                refine z_goto (tgt := 117) ho dX18_part_113 (by decide) ?_
                refine z_wf (fun hw110 => ?_)
                have hlB : ((B.take (t - (A.length : Int)).toNat).drop (0 : Int).toNat).length ≤ B.length := by rw [List.length_drop, List.length_take]; omega
                refine kX18_62 ho hN (c_join_ _ _ (frO hw g3 roA) g1 (by omega) (by omega)) dX18_part_117 (by omega) (Nat.le_of_ble_eq_true rfl) (by omega) (by omega) (fun x117 u117 h117 => ?_)
                obtain ⟨p1, p2, p3⟩ := h117
                refine r_R ho dX18_part_120 (by omega) (by omega) ?_
                rw [hAB, sub_app3 (by omega) (by omega)]
                rw [show (t - (A.length : Int)).toNat = t.toNat - A.length by omega] at p1
                refine ⟨?_, by omega, fun b hb => (g3 b hb).tr (p3 b (by omega))⟩
                rw [List.take_of_length_le (Nat.le_refl _)]
                exact p1
            · have hs' : t - (A.length : Int) = B.length := by omega
              refine z_aload_n ho dX18_part_74 rfl ?_
              refine gX18_20 ho dX18_part_75 kr ?_
              refine z_iload_n ho dX18_part_78 rfl ?_
              refine z_iload_n ho dX18_part_79 rfl ?_
              refine z_iload_n ho dX18_part_80 rfl ?_
              refine z_mmin ho hN q1216 dX18_part_81 (by unfold rng; omega) (by unfold rng; omega) (Nat.le_of_ble_eq_true rfl) (Nat.le_of_ble_eq_true rfl) (Nat.le_of_ble_eq_true rfl) (Nat.le_of_ble_eq_true rfl) ?_
              rw [e1]
              refine kX18_58 ho hN (ih u _ A f A.length (by omega) hA hf0 (by omega) (by omega) (by omega) (Or.inr rfl) (by omega) hE) dX18_part_84 (by omega) (Nat.le_of_ble_eq_true rfl) (by omega) (by omega) (fun x84 u84 h84 => ?_)
              obtain ⟨g1, g2, g3⟩ := h84
              refine z_goto (tgt := 91) ho dX18_part_87 (by decide) ?_
              refine z_iload_n ho dX18_part_91 rfl ?_
              refine z_iload_n ho dX18_part_92 rfl ?_
              refine z_icmp_le (tgt := 116) ho dX18_part_93 (by decide) (by unfold rng; omega) (by unfold rng; omega) (fun c93 => ?_) (fun c93 => ?_)
              · omega
              · 
                have sr := g3 r (hw.1 r (by omega)).1
                have hB2 : RT E u84 n (rv_ u r 4) B := frT hw g3 hB
                refine z_aload_n ho dX18_part_96 rfl ?_
                refine gX18_24 ho dX18_part_97 (by rw [sr.1]; exact kr) ?_
                rw [sr.2.2.2]
                refine z_iconst ho dX18_part_100 ?_
                refine z_iload_n ho dX18_part_101 rfl ?_
                refine z_iload_n ho dX18_part_102 rfl ?_
                refine z_isub ho dX18_part_103 ?_
                refine z_mmax ho hN q1213 dX18_part_104 (by unfold rng; omega) (by unfold rng; omega) (by omega) (Nat.le_of_ble_eq_true rfl) (by omega) (by omega) ?_
                rw [e2]
                refine z_iload_n ho dX18_part_107 rfl ?_
                refine z_iload_n ho dX18_part_108 rfl ?_
                refine z_isub ho dX18_part_109 ?_
                refine kX18_58 ho hN (c_partW _ _ hB2 hs' (by omega)) dX18_part_110 (by omega) (Nat.le_of_ble_eq_true rfl) (by omega) (by omega) (fun x110 u110 h110 => ?_)
                obtain ⟨rfl, rfl⟩ := h110
                refine z_goto (tgt := 117) ho dX18_part_113 (by decide) ?_
                have hlA : ((A.take (A.length : Int).toNat).drop f.toNat).length ≤ A.length := by rw [List.length_drop, List.length_take]; omega
                refine kX18_62 ho hN (c_join_ _ _ g1 (Or.inr (RT.mono _ _ _ _ hB2 (by omega))) (by omega) (by omega)) dX18_part_117 (by omega) (Nat.le_of_ble_eq_true rfl) (by omega) (by omega) (fun x117 u117 h117 => ?_)
                obtain ⟨p1, p2, p3⟩ := h117
                refine r_R ho dX18_part_120 (by omega) (by omega) ?_
                rw [hAB, sub_app3 (by omega) (by omega)]
                refine ⟨?_, by omega, fun b hb => (g3 b hb).tr (p3 b (by omega))⟩
                rw [Int.toNat_natCast] at p1
                rw [List.drop_zero, List.take_of_length_le (i := t.toNat - A.length) (by omega)]
                exact p1
      · -- characters
        obtain ⟨q1, q2, q3, q4, q5, q6, q7⟩ := hcase.resolve_right (fun z => c29 z.1)
        have hTt : ((T.take t.toNat).drop f.toNat).length = t.toNat - f.toNat := by rw [List.length_drop, List.length_take]; omega
        have hal := hw.1 (rv_ u r 2) (by omega)
        have hAl : Sm u (al_ u 18 0) (rv_ u r 2) := Sm.al (by omega)
        have sr : Sm u (al_ u 18 0) r := Sm.al (by have := hw.1 r (by omega); omega)
        have hz := hw.2.2
        have e1 : max 0 f = f := by omega
        have e2 : min t (T.length : Int) = t := by omega
        refine z_iconst ho dX18_part_32 ?_
        refine z_iload_n ho dX18_part_33 rfl ?_
        refine z_mmax ho hN q1213 dX18_part_34 (by unfold rng; omega) (by unfold rng; omega) (Nat.le_of_ble_eq_true rfl) (Nat.le_of_ble_eq_true rfl) (Nat.le_of_ble_eq_true rfl) (Nat.le_of_ble_eq_true rfl) ?_
        rw [e1]
        refine z_istore_n ho dX18_part_37 (Nat.le_of_ble_eq_true rfl) rfl ?_
        refine nX18_8 ho dX18_part_38 (by omega) (by omega) ?_
        refine z_dup ho dX18_part_41 rfl ?_
        refine z_aload_n ho dX18_part_42 rfl ?_
        refine gX18_7 ho dX18_part_43 (by rw [sr.1]; exact kr) ?_
        rw [sr.2.2.2]
        refine z_iload_n ho dX18_part_46 rfl ?_
        refine z_iload_n ho dX18_part_47 rfl ?_
        refine z_aload_n ho dX18_part_48 rfl ?_
        refine gX18_13 ho dX18_part_49 (by rw [sr.1]; exact kr) ?_
        rw [sr.2.2.1, hlen]
        refine z_mmin ho hN q1216 dX18_part_52 (by unfold rng; omega) (by unfold rng; omega) (Nat.le_of_ble_eq_true rfl) (Nat.le_of_ble_eq_true rfl) (Nat.le_of_ble_eq_true rfl) (Nat.le_of_ble_eq_true rfl) ?_
        rw [e2]
        refine z_iload_n ho dX18_part_55 rfl ?_
        refine z_isub ho dX18_part_56 ?_
        refine kX18_37 ho hN (c_Rope_init (E := E) _ _ (T := (T.take t.toNat).drop f.toNat) (by rw [kd_al, if_pos rfl]) rfl (fun i => by rw [rv_al, if_pos rfl]) (by rw [hAl.1]; exact q3) hf0 (by omega) (fun z => by rw [z] at hTt; simp at hTt; omega) (by omega) (by rw [hAl.2.1, q4]; omega) (fun q x hx => by rw [hAl.2.2.1]; rw [List.getElem?_drop, List.getElem?_take] at hx; split at hx; (· have := q6 _ x hx; rw [← this]; congr 1; omega); cases hx) (fun c hc => q7 c (List.mem_of_mem_take (List.mem_of_mem_drop hc))) hE) dX18_part_57 (by omega) (by omega) (Nat.le_of_ble_eq_true rfl) (by omega) (by omega) (fun u57 h57 => ?_)
        obtain ⟨g1, g2, g3, g4⟩ := h57
        refine r_R ho dX18_part_60 (by omega) (by omega) ?_
        exact ⟨Or.inr (RT.mono _ _ _ _ g1 (by omega)), by rw [g3]; omega, fun b hb => (Sm.al (by omega)).tr (g4 b hb)⟩
    refine z_aload_n ho dX18_part_0 rfl ?_
    refine z_ifnull (tgt := 9) ho dX18_part_1 (by decide) (fun c1 => ?_) (fun c1 => ?_)
    · exact absurd c1 hr0
    · 
      refine z_iload_n ho dX18_part_4 rfl ?_
      refine z_iload_n ho dX18_part_5 rfl ?_
      refine z_icmp_lt (tgt := 11) ho dX18_part_6 (by decide) (by unfold rng; omega) (by unfold rng; omega) (fun c6 => ?_) (fun c6 => ?_)
      · 
        refine z_iload_n ho dX18_part_11 rfl ?_
        refine z_if_gt (tgt := 25) ho dX18_part_12 (by decide) (by unfold rng; omega) (fun c12 => ?_) (fun c12 => ?_)
        · exact at25 c6 (by omega)
        · 
          refine z_iload_n ho dX18_part_15 rfl ?_
          refine z_aload_n ho dX18_part_16 rfl ?_
          refine gX18_13 ho dX18_part_17 kr ?_
          rw [hlen]
          refine z_icmp_lt (tgt := 25) ho dX18_part_20 (by decide) (by unfold rng; omega) (by unfold rng; omega) (fun c20 => ?_) (fun c20 => ?_)
          · exact at25 c6 (by omega)
          · 
            refine z_aload_n ho dX18_part_23 rfl ?_
            refine r_R ho dX18_part_24 (by omega) (by omega) ?_
            refine ⟨?_, Nat.le_refl _, fun b _ => Sm.rf u b⟩
            rw [show f.toNat = 0 by omega, List.drop_zero, List.take_of_length_le (by omega)]
            exact Or.inr (RT.mono _ _ _ _ hall hn)
      · exact none_ (by omega)
/-- of a rope or nothing -/
theorem c_partO (l : Launch) (u : Mem) {E r : Nat} {T : List Int} {f t : Int} (h : RO E u r T) (hf0 : 0 ≤ f) (ht0 : 0 ≤ t) (ht : t ≤ T.length) (hf : f ≤ T.length) (hside : f = 0 ∨ t = T.length) (hl : T.length ≤ 120) (hE : E ≤ sz_ u) :
    Mt_ l yX18_part cX18_part 4 (some (.object "KeyHall$Rope")) 20 1092 6540 [aR r, aI f, aI t] u (qR fun x v => RO E v x ((T.take t.toNat).drop f.toNat) ∧ sz_ u ≤ sz_ v ∧ ∀ b, b < sz_ u → Sm u v b) := by
  rcases h with ⟨rfl, rfl⟩ | h
  · refine (c_part0 l u).weak (by omega) (by omega) (by omega) (qR_mono (fun x v hq => ?_))
    obtain ⟨rfl, rfl⟩ := hq
    exact ⟨Or.inl ⟨rfl, by simp⟩, Nat.le_refl _, fun b _ => Sm.rf u b⟩
  · exact c_part l 12 u r T f t (by omega) h hf0 ht0 ht hf hside hl hE
