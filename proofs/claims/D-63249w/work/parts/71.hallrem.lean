set_option maxRecDepth 100000
/-! ===== KeyHall.get, remove ===== -/
theorem c_hget (l : Launch) (u : Mem) {x : Nat} {i : Int} {tp fd : List Int} {M : Nat → List KV} {ch : Nat → Int} {VL : List VS} {Ks : List (List Int)} {T : List Int} {Os : List (List Int)} {vs : VS} (h : HS u x tp fd M ch VL Ks T Os) (h0 : 0 ≤ i) (hj : VL[i.toNat]? = some vs) :
    Mt_ l yX1_get cX1_get 3 (some .int) 8 1 6 [aR x, aI i] u (qI fun r v => MR x u v ∧ HS v x [] fd M ch VL Ks T Os ∧ (((¬ vs.2.1 tp ∨ ∀ p ∈ M vs.1, p.1 ≠ tp) ∧ r = -1) ∨ (vs.2.1 tp ∧ ∃ A B w, M vs.1 = A ++ (tp, w) :: B ∧ (∀ p ∈ A ++ B, p.1 ≠ tp) ∧ r = w))) := by
  have kx := h.2.1.1
  have hjl := (List.getElem?_eq_some_iff.mp hj).1
  have ei : (i.toNat : Int) = i := Int.toNat_of_nonneg h0
  obtain ⟨S, hT, hV, hv, hSl⟩ := h.view hj
  have hen := c_entry l u (j := i.toNat) h hj hT hV
  rw [ei] at hen
  refine Mt_of (by decide) (Nat.le_of_ble_eq_true rfl) (fun X ho hX hN hI => ?_)
  subst hX
  show Z X 0 [some (aR x), some (aI i), none] [] u 0 0
  refine z_wf (fun hw => ?_)
  refine z_aload_n ho dX1_get_0 rfl ?_
  refine z_aload_n ho dX1_get_1 rfl ?_
  refine z_iload_n ho dX1_get_2 rfl ?_
  refine kX1_91 ho hN (c_of_ _ _ h.2.1 h0 (by omega)) dX1_get_3 kx (by omega) (Nat.le_of_ble_eq_true rfl) (Nat.le_of_ble_eq_true rfl) (Nat.le_of_ble_eq_true rfl) (fun x3 u3 h3 => ?_)
  obtain ⟨rfl, rfl⟩ := h3
  refine kX1_154 ho hN (hen) dX1_get_6 kx (by omega) (Nat.le_of_ble_eq_true rfl) (Nat.le_of_ble_eq_true rfl) (Nat.le_of_ble_eq_true rfl) (fun x6 u6 h6 => ?_)
  obtain ⟨g1, g2, g3, g4, g5, g6⟩ := h6
  refine z_wf (fun hw6 => ?_)
  refine z_astore_n ho dX1_get_9 (Nat.le_of_ble_eq_true rfl) rfl ?_
  refine z_aload_n ho dX1_get_10 rfl ?_
  refine z_ifnonnull (tgt := 18) ho dX1_get_11 (by decide) (fun c11 => ?_) (fun c11 => ?_)
  · rcases g6 with ⟨z, -⟩ | ⟨z1, z2, A, B, z3, z4, z5, z6⟩
    · exact absurd z c11
    have en := (g3.2.1 vs.1 hv.2.1).1.en _ z2
    refine z_aload_n ho dX1_get_18 rfl ?_
    refine gX1_134 ho dX1_get_19 en.2 ?_
    refine r_I ho dX1_get_22 (Nat.le_of_ble_eq_true rfl) (Nat.le_of_ble_eq_true rfl) ?_
    exact ⟨g2, g1, Or.inr ⟨z1, _, _, _, z4, z5, rfl⟩⟩
  · 
    refine z_iconst ho dX1_get_14 ?_
    refine z_goto (tgt := 22) ho dX1_get_15 (by decide) ?_
    refine r_I ho dX1_get_22 (Nat.le_of_ble_eq_true rfl) (Nat.le_of_ble_eq_true rfl) ?_
    refine ⟨g2, g1, Or.inl ⟨?_, rfl⟩⟩
    rcases g6 with ⟨-, z⟩ | ⟨-, z2, -⟩
    · exact z
    · exact absurd c11 (((g3.2.1 vs.1 hv.2.1).1.en _ z2).ne0 hw6)
theorem c_hremove (l : Launch) (u : Mem) {x : Nat} {i : Int} {tp fd : List Int} {M : Nat → List KV} {ch : Nat → Int} {VL : List VS} {Ks : List (List Int)} {T : List Int} {Os : List (List Int)} {vs : VS} (h : HS u x tp fd M ch VL Ks T Os) (h0 : 0 ≤ i) (hj : VL[i.toNat]? = some vs) (hc : ∀ k, k < 3 → ch k < 1000000) :
    Mt_ l yX1_remove cX1_remove 4 (some .int) 602 17 458 [aR x, aI i] u (qI fun r v => MR x u v ∧ (((¬ vs.2.1 tp ∨ ∀ p ∈ M vs.1, p.1 ≠ tp) ∧ r = -1 ∧ HS v x [] fd M ch VL Ks T Os) ∨ (vs.2.1 tp ∧ ∃ A B w, M vs.1 = A ++ (tp, w) :: B ∧ (∀ p ∈ A ++ B, p.1 ≠ tp) ∧ r = w ∧ HS v x [] fd (fun k => if k = vs.1 then swp A B else M k) (fun k => if k = vs.1 then ch vs.1 + 1 else ch k) VL Ks T Os))) := by
  have kx := h.2.1.1
  have hjl := (List.getElem?_eq_some_iff.mp hj).1
  have ei : (i.toNat : Int) = i := Int.toNat_of_nonneg h0
  obtain ⟨S, hT, hV, hv, hSl⟩ := h.view hj
  have hen := c_entry l u (j := i.toNat) h hj hT hV
  rw [ei] at hen
  refine Mt_of (by decide) (Nat.le_of_ble_eq_true rfl) (fun X ho hX hN hI => ?_)
  subst hX
  show Z X 0 [some (aR x), some (aI i), none, none] [] u 0 0
  refine z_wf (fun hw => ?_)
  refine z_aload_n ho dX1_remove_0 rfl ?_
  refine z_iload_n ho dX1_remove_1 rfl ?_
  refine kX1_91 ho hN (c_of_ _ _ h.2.1 h0 (by omega)) dX1_remove_2 kx (by omega) (Nat.le_of_ble_eq_true rfl) (Nat.le_of_ble_eq_true rfl) (Nat.le_of_ble_eq_true rfl) (fun x2 u2 h2 => ?_)
  obtain ⟨rfl, rfl⟩ := h2
  refine z_astore_n ho dX1_remove_5 (Nat.le_of_ble_eq_true rfl) rfl ?_
  refine z_aload_n ho dX1_remove_6 rfl ?_
  refine z_aload_n ho dX1_remove_7 rfl ?_
  refine kX1_154 ho hN (hen) dX1_remove_8 kx (by omega) (Nat.le_of_ble_eq_true rfl) (Nat.le_of_ble_eq_true rfl) (Nat.le_of_ble_eq_true rfl) (fun x8 u8 h8 => ?_)
  obtain ⟨g1, g2, g3, g4, g5, g6⟩ := h8
  refine z_wf (fun hw6 => ?_)
  have hi3 := hv.2.1
  obtain ⟨y1, y2, y3, y4, y5, y6⟩ := g3.2.1 vs.1 hi3
  have hgl := hG_lt (u := u8) (x := x) g1.1.1
  refine z_astore_n ho dX1_remove_11 (Nat.le_of_ble_eq_true rfl) rfl ?_
  refine z_aload_n ho dX1_remove_12 rfl ?_
  refine z_ifnonnull (tgt := 18) ho dX1_remove_13 (by decide) (fun c13 => ?_) (fun c13 => ?_)
  · rcases g6 with ⟨z, -⟩ | ⟨z1, z2, A, B, z3, z4, z5, z6⟩
    · exact absurd z c13
    have en := y1.en _ z2
    have hvw := g4.1 i.toNat vs hj
    rw [ei, g5] at hvw
    obtain ⟨-, -, ⟨lo, hi, hVw, -⟩, -⟩ := hvw
    refine z_aload_n ho dX1_remove_18 rfl ?_
    refine gX1_124 ho dX1_remove_19 hVw.1 ?_
    rw [hVw.2.1]
    refine z_aload_n ho dX1_remove_22 rfl ?_
    refine kX1_158 ho hN (c_remove _ _ y1 hgl (by omega) z2) dX1_remove_23 (by unfold isT_; exact y1.k3) (by omega) (Nat.le_of_ble_eq_true rfl) (Nat.le_of_ble_eq_true rfl) (Nat.le_of_ble_eq_true rfl) (fun u23 h23 => ?_)
    obtain ⟨p1, p2, p3, p4⟩ := h23
    have hperm := swp_perm A B
    have hnd : (swp A B).Nodup := by
      refine hperm.nodup_iff.mpr ?_
      rw [z3] at y4
      obtain ⟨n1, n2, n3⟩ := List.nodup_append.mp y4
      exact List.nodup_append.mpr ⟨n1, (List.nodup_cons.mp n2).2, fun a ha b hb => n3 a ha b (by simp [hb])⟩
    have hmem : ∀ e, e ∈ swp A B ↔ e ∈ S vs.1 ∧ e ≠ x8 := fun e => by
      rw [hperm.mem_iff, z3]
      constructor
      · intro he
        refine ⟨?_, z6 e he⟩
        simp only [List.mem_append, List.mem_cons] at he ⊢
        rcases he with q | q
        · exact Or.inl q
        · exact Or.inr (Or.inr q)
      · rintro ⟨he, hne⟩
        simp only [List.mem_append, List.mem_cons] at he ⊢
        rcases he with q | q | q
        · exact Or.inl q
        · exact absurd q hne
        · exact Or.inr q
    have hSn : (S vs.1).length = (swp A B).length + 1 := by
      rw [hperm.length_eq, z3]; simp; omega
    have hKr : Kp_ x u8 u23 := ⟨p2.1, fun a ha => ⟨(p2.2 a ha).1, (p2.2 a ha).2.1⟩, fun a ha hE hk => (p2.2 a ha).2.2 (fun z => by
        have h3 := tA_3 x vs.1
        unfold QT Sc K5 at z
        omega)⟩
    have hen2 : ∀ e ∈ S vs.1, tx u23 e = tx u8 e ∧ ∀ i, iv_ u23 e i = iv_ u8 e i := fun e he => (hKr.en hw6 (y1.en e he) (y6 e he)).2
    have eL : swp (A.map (fun e => (tx u8 e, iv_ u8 e 2))) (B.map (fun e => (tx u8 e, iv_ u8 e 2))) = (swp A B).map (fun e => (tx u23 e, iv_ u23 e 2)) := by
      rw [← swp_map]
      exact List.map_congr_left (fun e he => by have := hen2 e ((hmem e).mp he).1; rw [this.1, this.2])
    have hrc := (h.1.2.1 vs.1 hi3).2
    have hcc := hc vs.1 hi3
    obtain ⟨r1, r2, r3, r4, hK2⟩ := g1.tree hw6 hi3 g3 g4 p2 (p1 (swp A B) hmem) (by rw [p3, y2]; omega) p4 hnd eL (fun e he => y6 e ((hmem e).mp he).1) (fun k hk hne e he => g3.2.2 vs.1 k hi3 hk (fun z => hne z.symm) e ((hmem e).mp he).1) (by omega) (by rw [y3]; unfold rng at hrc ⊢; omega) (Or.inr (by rw [y3]; omega))
    have en23 : kd_ u23 x8 = 14 := by rw [(hKr.2.1 _ (en.1.lt hw6).1).1]; exact en.2
    refine z_aload_n ho dX1_remove_26 rfl ?_
    refine gX1_134 ho dX1_remove_27 en23 ?_
    refine r_I ho dX1_remove_30 (Nat.le_of_ble_eq_true rfl) (Nat.le_of_ble_eq_true rfl) ?_
    refine ⟨g2.tr r2, Or.inr ⟨z1, _, _, _, z4, z5, (hen2 _ z2).2 2, ?_⟩⟩
    rw [y3] at r1
    exact r1
  · 
    refine z_iconst ho dX1_remove_16 ?_
    refine r_I ho dX1_remove_17 (Nat.le_of_ble_eq_true rfl) (Nat.le_of_ble_eq_true rfl) ?_
    refine ⟨g2, Or.inl ⟨?_, rfl, g1⟩⟩
    rcases g6 with ⟨-, z⟩ | ⟨-, z2, -⟩
    · exact z
    · exact absurd c13 ((y1.en _ z2).ne0 hw6)
theorem t_hget (l : Launch) (hst : l.stackTraces = false) (u : Mem) {x : Nat} {i : Int} {tp fd : List Int} {M : Nat → List KV} {ch : Nat → Int} {VL : List VS} {Ks : List (List Int)} {T : List Int} {Os : List (List Int)} (h : HS u x tp fd M ch VL Ks T Os) (ri : rng i) (hn : ¬ (0 ≤ i ∧ i < VL.length)) : Th_ l yX1_get cX1_get 3 (some .int) 8 1 6 [aR x, aI i] u (qTh 19 x u tp fd M ch VL Ks T Os) := by
  have kx := h.2.1.1
  refine Th_of (by decide) (Nat.le_of_ble_eq_true rfl) (fun X ho hT hX hN => ?_)
  subst hX
  show Z X 0 [some (aR x), some (aI i), none] [] u 0 0
  refine z_wf (fun hw => ?_)
  refine z_aload_n ho dX1_get_0 rfl ?_
  refine z_aload_n ho dX1_get_1 rfl ?_
  refine z_iload_n ho dX1_get_2 rfl ?_
  refine tX1_91 ho hT hN (t_of_ _ hst _ h.2.1 ri hn) dX1_get_3 kx (Nat.le_of_ble_eq_true rfl) (Nat.le_of_ble_eq_true rfl) (Nat.le_of_ble_eq_true rfl) (Nat.le_of_ble_eq_true rfl) (fun x3 u3 h3 => ?_)
  exact qTh_ex h hw h3
theorem t_hremove (l : Launch) (hst : l.stackTraces = false) (u : Mem) {x : Nat} {i : Int} {tp fd : List Int} {M : Nat → List KV} {ch : Nat → Int} {VL : List VS} {Ks : List (List Int)} {T : List Int} {Os : List (List Int)} (h : HS u x tp fd M ch VL Ks T Os) (ri : rng i) (hn : ¬ (0 ≤ i ∧ i < VL.length)) : Th_ l yX1_remove cX1_remove 4 (some .int) 602 17 458 [aR x, aI i] u (qTh 19 x u tp fd M ch VL Ks T Os) := by
  have kx := h.2.1.1
  refine Th_of (by decide) (Nat.le_of_ble_eq_true rfl) (fun X ho hT hX hN => ?_)
  subst hX
  show Z X 0 [some (aR x), some (aI i), none, none] [] u 0 0
  refine z_wf (fun hw => ?_)
  refine z_aload_n ho dX1_remove_0 rfl ?_
  refine z_iload_n ho dX1_remove_1 rfl ?_
  refine tX1_91 ho hT hN (t_of_ _ hst _ h.2.1 ri hn) dX1_remove_2 kx (Nat.le_of_ble_eq_true rfl) (Nat.le_of_ble_eq_true rfl) (Nat.le_of_ble_eq_true rfl) (Nat.le_of_ble_eq_true rfl) (fun x2 u2 h2 => ?_)
  exact qTh_ex h hw h2
