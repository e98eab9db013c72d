set_option maxRecDepth 100000
/-! ===== KeyHall.poll ===== -/
/-- an entry is taken out of a map -/
theorem HS.rem {u v : Mem} {x i r : Nat} {tp fd : List Int} {M : Nat → List KV} {ch : Nat → Int} {VL : List VS} {Ks : List (List Int)} {T : List Int} {Os : List (List Int)} {S : Nat → List Nat} (h : HS u x tp fd M ch VL Ks T Os) (hw : Wf u) (hi : i < 3) (hT : HT u x S M ch) (hV : HV u x S ch VL) (hr : r ∈ S i) (p1 : ∀ S', (∀ y, y ∈ S' ↔ y ∈ S i ∧ y ≠ r) → TP (hG x) v (tA x i) S') (p2 : Fr (QT (hG x) (kd_ u (tA x i)) (tA x i)) u v) (p3 : iv_ v (tA x i) 0 = iv_ u (tA x i) 0 - 1) (p4 : iv_ v (tA x i) 1 = iv_ u (tA x i) 1 + 1) (hc : ch i < 1000000) :
    ∃ A B S', M i = A ++ (tx u r, iv_ u r 2) :: B ∧ (∀ p ∈ A ++ B, p.1 ≠ tx u r) ∧ HS v x tp fd (fun k => if k = i then swp A B else M k) (fun k => if k = i then ch i + 1 else ch k) VL Ks T Os ∧ MR x u v ∧ HT v x S' (fun k => if k = i then swp A B else M k) (fun k => if k = i then ch i + 1 else ch k) ∧ HV v x S' (fun k => if k = i then ch i + 1 else ch k) VL ∧ Kp_ x u v := by
  obtain ⟨y1, y2, y3, y4, y5, y6⟩ := hT.2.1 i hi
  have hSl : (S i).length ≤ 39 := by
    have := (h.1.2.1 i hi).1
    rw [y5, List.length_map] at this
    exact this
  rcases get_M y1 (by omega) y4 y5 (k := r) (r := r) (Or.inr ⟨hr, rfl⟩) with ⟨-, z2⟩ | ⟨z1, z2, A, B, z3, z4, z5, z6⟩
  · exact absurd rfl (z2 (tx u r, iv_ u r 2) (by rw [y5]; exact List.mem_map_of_mem hr))
  have hperm := swp_perm A B
  have hnd : (swp A B).Nodup := by
    refine hperm.nodup_iff.mpr ?_
    rw [z3] at y4
    obtain ⟨n1, n2, n3⟩ := List.nodup_append.mp y4
    exact List.nodup_append.mpr ⟨n1, (List.nodup_cons.mp n2).2, fun a ha b hb => n3 a ha b (by simp [hb])⟩
  have hmem : ∀ e, e ∈ swp A B ↔ e ∈ S i ∧ e ≠ r := fun e => by
    rw [hperm.mem_iff, z3]
    constructor
    · intro he
      refine ⟨?_, z6 e he⟩
      simp only [List.mem_append, List.mem_cons] at he ⊢
      rcases he with q | q
      · exact Or.inl q
      · exact Or.inr (Or.inr q)
    · rintro ⟨he, hne⟩
      simp only [List.mem_append, List.mem_cons] at he ⊢
      rcases he with q | q | q
      · exact Or.inl q
      · exact absurd q hne
      · exact Or.inr q
  have hSn : (S i).length = (swp A B).length + 1 := by
    rw [hperm.length_eq, z3]; simp; omega
  have hKr : Kp_ x u v := ⟨p2.1, fun a ha => ⟨(p2.2 a ha).1, (p2.2 a ha).2.1⟩, fun a ha hE hk => (p2.2 a ha).2.2 (fun z => by
      have h3 := tA_3 x i
      unfold QT Sc K5 at z
      omega)⟩
  have hen2 : ∀ e ∈ S i, tx v e = tx u e ∧ ∀ i, iv_ v e i = iv_ u e i := fun e he => (hKr.en hw (y1.en e he) (y6 e he)).2
  have eL : swp (A.map (fun e => (tx u e, iv_ u e 2))) (B.map (fun e => (tx u e, iv_ u e 2))) = (swp A B).map (fun e => (tx v e, iv_ v e 2)) := by
    rw [← swp_map]
    exact List.map_congr_left (fun e he => by have := hen2 e ((hmem e).mp he).1; rw [this.1, this.2])
  have hrc := (h.1.2.1 i hi).2
  obtain ⟨r1, r2, r3, r4, hK2⟩ := h.tree hw hi hT hV p2 (p1 (swp A B) hmem) (by rw [p3, y2]; omega) p4 hnd eL (fun e he => y6 e ((hmem e).mp he).1) (fun k hk hne e he => hT.2.2 i k hi hk (fun z => hne z.symm) e ((hmem e).mp he).1) (by omega) (by rw [y3]; unfold rng at hrc ⊢; omega) (Or.inr (by rw [y3]; omega))
  rw [y3] at r1 r3 r4
  exact ⟨_, _, _, z4, z5, r1, r2, r3, r4, hK2⟩
/-- the way of poll -/
def pW (vs : VS) (la : Int) : Int := if la = 0 then vs.2.2.1 else 1 - vs.2.2.1
theorem c_hpoll (l : Launch) (u : Mem) {x : Nat} {i la : Int} {tp fd : List Int} {M : Nat → List KV} {ch : Nat → Int} {VL : List VS} {Ks : List (List Int)} {T : List Int} {Os : List (List Int)} {vs : VS} {p : KV} (h : HS u x tp fd M ch VL Ks T Os) (h0 : 0 ≤ i) (hj : VL[i.toNat]? = some vs) (hla : la = 0 ∨ la = 1) (hf : Nr (pW vs la) vs.2.1 none 0 (M vs.1) (some p)) (hc : ∀ k, k < 3 → ch k < 1000000) :
    Mt_ l yX1_poll cX1_poll 6 (some .int) 1104 18 464 [aR x, aI i, aI la] u (qI fun r v => r = p.2 ∧ MR x u v ∧ ∃ A B, M vs.1 = A ++ p :: B ∧ (∀ q ∈ A ++ B, q.1 ≠ p.1) ∧ HS v x tp p.1 (fun k => if k = vs.1 then swp A B else M k) (fun k => if k = vs.1 then ch vs.1 + 1 else ch k) VL Ks T Os) := by
  have kx := h.2.1.1
  have g1 := h.1.1
  have hjl := (List.getElem?_eq_some_iff.mp hj).1
  have ei : (i.toNat : Int) = i := Int.toNat_of_nonneg h0
  obtain ⟨S, hTr, hV, hv, hSl⟩ := h.view hj
  rw [ei] at hv
  have v2 := hv.2.1
  have hka : kd_ u (rv_ u (x + 3) i) = 11 := by obtain ⟨-, -, ⟨lo, hi, ⟨q1, -⟩, -⟩, -⟩ := hv; exact q1
  refine Mt_of (by decide) (Nat.le_of_ble_eq_true rfl) (fun X ho hX hN hI => ?_)
  subst hX
  show Z X 0 [some (aR x), some (aI i), some (aI la), none, none, none] [] u 0 0
  refine z_wf (fun hw => ?_)
  have fin : ∀ (e : Nat), isP u (S vs.1) e (some p) → Z X 25 [some (aR x), some (aI i), some (aI la), some (aR (rv_ u (x + 3) i)), none, none] [aR e] u 1 6 := by
    intro e hr
    obtain ⟨p', hp', m1, m2, m3⟩ := hr.resolve_left (fun z => by cases z.1)
    cases hp'
    have en := (hTr.2.1 vs.1 v2).1.en _ m1
    have hE := (hTr.2.1 vs.1 v2).2.2.2.2.2 _ m1
    refine z_astore ho dX1_poll_25 (Nat.le_of_ble_eq_true rfl) rfl ?_
    refine z_aload_n ho dX1_poll_27 rfl ?_
    refine z_aload ho dX1_poll_28 rfl ?_
    refine kX1_174 ho hN (c_tell_ _ _ h en hE) dX1_poll_30 kx (by omega) (Nat.le_of_ble_eq_true rfl) (by omega) (by omega) (fun x30 u30 h30 => ?_)
    obtain ⟨g1', g2, g3, g4, g5⟩ := h30
    refine z_wf (fun hw1 => ?_)
    obtain ⟨hT1, hV1, hK1⟩ := h.keepS hTr hV hw (by omega) g4 (fun a ha hn => g5 a (fun z => hn (by unfold kC; simp [z])) (fun z => hn (by unfold kC; simp [z])))
    have s3 := g5 (x + 3) (by omega) (by omega)
    have hv1 := hV1.1 i.toNat vs hj
    rw [s3.2.2.2, ei] at hv1
    obtain ⟨w1, w2, ⟨lo, hi, hVw, hR⟩, -⟩ := hv1
    obtain ⟨y1, y2, y3, y4, y5, y6⟩ := hT1.2.1 vs.1 v2
    have se := (hK1.en hw en hE)
    refine z_istore ho dX1_poll_33 (Nat.le_of_ble_eq_true rfl) rfl ?_
    refine z_aload_n ho dX1_poll_35 rfl ?_
    refine gX1_124 ho dX1_poll_36 hVw.1 ?_
    rw [hVw.2.1]
    refine z_aload ho dX1_poll_39 rfl ?_
    refine kX1_158 ho hN (c_remove _ _ y1 (hG_lt (by omega)) (by omega) m1) dX1_poll_41 (by unfold isT_; exact y1.k3) (by omega) (Nat.le_of_ble_eq_true rfl) (by omega) (by omega) (fun u41 h41 => ?_)
    obtain ⟨p1, p2, p3, p4⟩ := h41
    refine z_iload ho dX1_poll_44 rfl ?_
    refine r_I ho dX1_poll_46 (Nat.le_of_ble_eq_true rfl) (Nat.le_of_ble_eq_true rfl) ?_
    obtain ⟨A, B, S', q1, q2, q3, q4, -⟩ := g2.rem hw1 v2 hT1 hV1 m1 p1 p2 p3 p4 (hc vs.1 v2)
    rw [se.2.1, m2] at q1 q2
    rw [se.2.2, m3] at q1
    rw [m2] at q3
    exact ⟨by rw [g1']; exact m3, MR.tr ⟨by omega, fun a q1 q2 => g5 a (by omega) (by omega)⟩ q4, A, B, q1, q2, q3⟩
  refine z_aload_n ho dX1_poll_0 rfl ?_
  refine z_iload_n ho dX1_poll_1 rfl ?_
  refine kX1_91 ho hN (c_of_ _ _ h.2.1 h0 (by omega)) dX1_poll_2 kx (by omega) (Nat.le_of_ble_eq_true rfl) (by omega) (by omega) (fun x2 u2 h2 => ?_)
  obtain ⟨rfl, rfl⟩ := h2
  refine z_astore_n ho dX1_poll_5 (Nat.le_of_ble_eq_true rfl) rfl ?_
  refine z_iload_n ho dX1_poll_6 rfl ?_
  refine z_if_eq (tgt := 19) ho dX1_poll_7 (by decide) (by unfold rng; omega) (fun c7 => ?_) (fun c7 => ?_)
  · unfold pW at hf
    rw [if_pos c7] at hf
    refine z_aload_n ho dX1_poll_19 rfl ?_
    refine z_null ho dX1_poll_20 ?_
    refine z_iconst ho dX1_poll_21 ?_
    refine kX1_178 ho hN (c_afterP _ _ hw hTr hv hSl (Or.inl ⟨rfl, rfl⟩) (Or.inl rfl) hf) dX1_poll_22 hka (by omega) (Nat.le_of_ble_eq_true rfl) (by omega) (by omega) (fun x22 u22 h22 => ?_)
    obtain ⟨rfl, hr⟩ := h22
    exact fin _ hr
  · unfold pW at hf
    rw [if_neg c7] at hf
    refine z_aload_n ho dX1_poll_10 rfl ?_
    refine z_null ho dX1_poll_11 ?_
    refine z_iconst ho dX1_poll_12 ?_
    refine kX1_170 ho hN (c_beforeP _ _ hw hTr hv hSl (Or.inl ⟨rfl, rfl⟩) (Or.inl rfl) hf) dX1_poll_13 hka (by omega) (Nat.le_of_ble_eq_true rfl) (by omega) (by omega) (fun x13 u13 h13 => ?_)
    obtain ⟨rfl, hr⟩ := h13
    refine z_goto (tgt := 25) ho dX1_poll_16 (by decide) ?_
    exact fin _ hr
theorem t_hpoll2 (l : Launch) (hst : l.stackTraces = false) (u : Mem) {x : Nat} {i la : Int} {tp fd : List Int} {M : Nat → List KV} {ch : Nat → Int} {VL : List VS} {Ks : List (List Int)} {T : List Int} {Os : List (List Int)} {vs : VS} (h : HS u x tp fd M ch VL Ks T Os) (h0 : 0 ≤ i) (hj : VL[i.toNat]? = some vs) (hla : la = 0 ∨ la = 1) (hf : Nr (pW vs la) vs.2.1 none 0 (M vs.1) none) :
    Th_ l yX1_poll cX1_poll 6 (some .int) 1104 18 464 [aR x, aI i, aI la] u (qTh 22 x u tp fd M ch VL Ks T Os) := by
  have kx := h.2.1.1
  have g1 := h.1.1
  have hjl := (List.getElem?_eq_some_iff.mp hj).1
  have ei : (i.toNat : Int) = i := Int.toNat_of_nonneg h0
  obtain ⟨S, hTr, hV, hv, hSl⟩ := h.view hj
  rw [ei] at hv
  have hka : kd_ u (rv_ u (x + 3) i) = 11 := by obtain ⟨-, -, ⟨lo, hi, ⟨q1, -⟩, -⟩, -⟩ := hv; exact q1
  refine Th_of (by decide) (Nat.le_of_ble_eq_true rfl) (fun X ho hT hX hN => ?_)
  subst hX
  show Z X 0 [some (aR x), some (aI i), some (aI la), none, none, none] [] u 0 0
  refine z_wf (fun hw => ?_)
  have fin : ∀ (e : Nat), isP u (S vs.1) e none → Z X 25 [some (aR x), some (aI i), some (aI la), some (aR (rv_ u (x + 3) i)), none, none] [aR e] u 1 6 := by
    intro e hr
    have hr0 : e = 0 := by
      rcases hr with z | ⟨p', hp', -⟩
      · exact z.2
      · cases hp'
    rw [hr0]
    refine z_astore ho dX1_poll_25 (Nat.le_of_ble_eq_true rfl) rfl ?_
    refine z_aload_n ho dX1_poll_27 rfl ?_
    refine z_aload ho dX1_poll_28 rfl ?_
    refine tX1_174 ho hT hN (t_tell _ hst _) dX1_poll_30 kx (by omega) (Nat.le_of_ble_eq_true rfl) (by omega) (by omega) (fun x30 u30 h30 => ?_)
    exact qTh_ex h hw h30
  refine z_aload_n ho dX1_poll_0 rfl ?_
  refine z_iload_n ho dX1_poll_1 rfl ?_
  refine kX1_91 ho hN (c_of_ _ _ h.2.1 h0 (by omega)) dX1_poll_2 kx (by omega) (Nat.le_of_ble_eq_true rfl) (by omega) (by omega) (fun x2 u2 h2 => ?_)
  obtain ⟨rfl, rfl⟩ := h2
  refine z_astore_n ho dX1_poll_5 (Nat.le_of_ble_eq_true rfl) rfl ?_
  refine z_iload_n ho dX1_poll_6 rfl ?_
  refine z_if_eq (tgt := 19) ho dX1_poll_7 (by decide) (by unfold rng; omega) (fun c7 => ?_) (fun c7 => ?_)
  · unfold pW at hf
    rw [if_pos c7] at hf
    refine z_aload_n ho dX1_poll_19 rfl ?_
    refine z_null ho dX1_poll_20 ?_
    refine z_iconst ho dX1_poll_21 ?_
    refine kX1_178 ho hN (c_afterP _ _ hw hTr hv hSl (Or.inl ⟨rfl, rfl⟩) (Or.inl rfl) hf) dX1_poll_22 hka (by omega) (Nat.le_of_ble_eq_true rfl) (by omega) (by omega) (fun x22 u22 h22 => ?_)
    obtain ⟨rfl, hr⟩ := h22
    exact fin _ hr
  · unfold pW at hf
    rw [if_neg c7] at hf
    refine z_aload_n ho dX1_poll_10 rfl ?_
    refine z_null ho dX1_poll_11 ?_
    refine z_iconst ho dX1_poll_12 ?_
    refine kX1_170 ho hN (c_beforeP _ _ hw hTr hv hSl (Or.inl ⟨rfl, rfl⟩) (Or.inl rfl) hf) dX1_poll_13 hka (by omega) (Nat.le_of_ble_eq_true rfl) (by omega) (by omega) (fun x13 u13 h13 => ?_)
    obtain ⟨rfl, hr⟩ := h13
    refine z_goto (tgt := 25) ho dX1_poll_16 (by decide) ?_
    exact fin _ hr
theorem t_hpoll1 (l : Launch) (hst : l.stackTraces = false) (u : Mem) {x : Nat} {i la : Int} {tp fd : List Int} {M : Nat → List KV} {ch : Nat → Int} {VL : List VS} {Ks : List (List Int)} {T : List Int} {Os : List (List Int)} (h : HS u x tp fd M ch VL Ks T Os) (ri : rng i) (hn : ¬ (0 ≤ i ∧ i < VL.length)) : Th_ l yX1_poll cX1_poll 6 (some .int) 1104 18 464 [aR x, aI i, aI la] u (qTh 19 x u tp fd M ch VL Ks T Os) := by
  have kx := h.2.1.1
  refine Th_of (by decide) (Nat.le_of_ble_eq_true rfl) (fun X ho hT hX hN => ?_)
  subst hX
  show Z X 0 [some (aR x), some (aI i), some (aI la), none, none, none] [] u 0 0
  refine z_wf (fun hw => ?_)
  refine z_aload_n ho dX1_poll_0 rfl ?_
  refine z_iload_n ho dX1_poll_1 rfl ?_
  refine tX1_91 ho hT hN (t_of_ _ hst _ h.2.1 ri hn) dX1_poll_2 kx (Nat.le_of_ble_eq_true rfl) (Nat.le_of_ble_eq_true rfl) (Nat.le_of_ble_eq_true rfl) (Nat.le_of_ble_eq_true rfl) (fun x2 u2 h2 => ?_)
  exact qTh_ex h hw h2
