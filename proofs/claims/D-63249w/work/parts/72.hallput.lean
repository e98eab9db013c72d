set_option maxRecDepth 100000
/-! ===== KeyHall.put ===== -/
theorem HV1.same2 {u v : Mem} {x a : Nat} {S : Nat → List Nat} {ch : Nat → Int} {vs : VS} (h : HV1 u x S ch a vs) (hw : Wf u) (hky : ∀ k, Ky u k → Ky v k ∧ tx v k = tx u k) (hkd : ∀ k, kd_ v k = kd_ u k) (sa : Sm u v a) : HV1 v x S ch a vs := by
  obtain ⟨h1, h2, ⟨lo, hi, ⟨q1, q2, q3, q4⟩, hr⟩, h4, h5, h6, h7, h8, h9, h10, h11, h12⟩ := h
  have ko : ∀ {k : Nat} {o : Option (List Int)}, KyO u k o → KyO v k o := fun {k o} hko => by
    rcases hko with z | ⟨z, e⟩
    · exact Or.inl z
    · have := hky k z
      exact Or.inr ⟨this.1, by rw [this.2]; exact e⟩
  refine ⟨h1, h2, ⟨lo, hi, ⟨by rw [hkd]; exact q1, by rw [sa.2.2.2]; exact q2, by rw [sa.2.2.2]; exact ko q3, by rw [sa.2.2.2]; exact ko q4⟩, hr⟩, by rw [sa.2.2.2, hkd]; exact h4, by rw [sa.2.2.2, hkd]; exact h5, by rw [sa.2.2.1]; exact h6, by rw [sa.2.2.1]; exact h7, by rw [sa.2.2.1]; exact h8, ?_, by rw [sa.2.2.1]; exact h10, by rw [sa.2.2.2]; exact h11, h12⟩
  rw [sa.2.2.2]
  rcases h9 with z | ⟨z1, z2, z3⟩
  · exact Or.inl z
  · have := hky _ z1.1
    exact Or.inr ⟨⟨this.1, by rw [hkd]; exact z1.2⟩, z2, by rw [this.2]; exact z3⟩
/-- the value of an entry changes -/
theorem HS.val {u : Mem} {x i e : Nat} {w : Int} {tp fd : List Int} {M : Nat → List KV} {ch : Nat → Int} {VL : List VS} {Ks : List (List Int)} {T : List Int} {Os : List (List Int)} {S : Nat → List Nat} {A B : List Nat} (h : HS u x tp fd M ch VL Ks T Os) (hw : Wf u) (hi : i < 3) (hT : HT u x S M ch) (hV : HV u x S ch VL) (hS : S i = A ++ e :: B) (hne : ∀ y ∈ A ++ B, y ≠ e) : HS (wI_ u e 2 w) x tp fd (fun k => if k = i then A.map (fun y => (tx u y, iv_ u y 2)) ++ (tx u e, w) :: B.map (fun y => (tx u y, iv_ u y 2)) else M k) ch VL Ks T Os ∧ MR x u (wI_ u e 2 w) := by
  obtain ⟨⟨g1, g2, g3⟩, hFd, t1, f1, ⟨h0, d1⟩, -, hA, hX⟩ := h
  have heS : e ∈ S i := by rw [hS]; simp
  have en := (hT.2.1 i hi).1.en e heS
  have hE := (hT.2.1 i hi).2.2.2.2.2 e heS
  have sm : ∀ a, a ≠ e → Sm u (wI_ u e 2 w) a := fun a ha => Sm.wI ha
  have hky : ∀ k, Ky u k → Ky (wI_ u e 2 w) k ∧ tx (wI_ u e 2 w) k = tx u k := fun k hk => by
    by_cases z : k = e
    · subst z
      obtain ⟨k1, k2, k3, k4, k5, k6, k7⟩ := hk
      have e1 : iv_ (wI_ u k 2 w) k 1 = iv_ u k 1 := by rw [iv_wI, if_neg (by omega)]
      have e2 : ∀ j, iv_ (wI_ u k 2 w) (k + 1) j = iv_ u (k + 1) j := fun j => by rw [iv_wI, if_neg (by omega)]
      refine ⟨⟨k1, k2, k3, k4, by rw [e1]; exact k5, by rw [e1]; exact k6, fun j q1 q2 => by rw [e2]; exact k7 j q1 q2⟩, ?_⟩
      unfold tx
      rw [e1]
      exact seg_ext (fun j _ _ => e2 j)
    · exact hk.same (sm k z) (sm (k + 1) (fun y => by have := hk.2.2.1; rw [y, en.2] at this; omega))
  have h3 := tA_3 x
  have hkk := fun k (hk : k < 3) => tA_kd hT hk
  refine ⟨⟨⟨g1, fun k hk => ?_, g3⟩, hFd.same (sm x (by omega)) ⟨rfl, rfl⟩, t1.same (sm _ (by omega)) (sm _ (by omega)), f1.same (sm _ (by omega)) (sm _ (by omega)), ⟨h0, d1.same (sm _ (by omega)) (sm _ (by omega))⟩, ⟨S, ⟨hT.1, fun k hk => ?_, hT.2.2⟩, fun j vs hj => (hV.1 j vs hj).same2 hw hky (fun _ => rfl) (sm _ (fun z => ?_)), hV.2⟩, hA.same (fun a q1 q2 => sm a (by omega)), ?_⟩, Nat.le_refl _, fun a q1 q2 => sm a (by omega)⟩
  · simp only
    by_cases z : k = i
    · rw [if_pos z]
      have := g2 k hk
      rw [z] at this ⊢
      refine ⟨?_, this.2⟩
      have h4 := this.1
      rw [(hT.2.1 i hi).2.2.2.2.1, hS] at h4
      simpa using h4
    · rw [if_neg z]; exact g2 k hk
  · obtain ⟨y1, y2, y3, y4, y5, y6⟩ := hT.2.1 k hk
    have hka := hkk k hk
    have h3k := h3 k
    have sk := sm (tA x k) (by omega)
    refine ⟨y1.frame hw rfl (fun _ => rfl) (fun a ha hsc => sm a (fun z => by rw [z, en.2] at hsc; unfold Sc K5 at hsc; omega)) (fun y hy hyn => ⟨⟨(hky y hyn.1).1, hyn.2⟩, (hky y hyn.1).2⟩), by rw [sk.2.2.1]; exact y2, by rw [sk.2.2.1]; exact y3, y4, ?_, y6⟩
    have old : ∀ y, En u y → y ≠ e → (tx (wI_ u e 2 w) y, iv_ (wI_ u e 2 w) y 2) = (tx u y, iv_ u y 2) := fun y hyn hy => by rw [(hky y hyn.1).2, iv_wI, if_neg (fun z => hy z.1)]
    simp only
    by_cases z : k = i
    · rw [if_pos z, z, hS, List.map_append, List.map_cons, (hky e en.1).2, iv_wI, if_pos ⟨rfl, rfl⟩]
      rw [z] at y1
      have eA : A.map (fun y => (tx (wI_ u e 2 w) y, iv_ (wI_ u e 2 w) y 2)) = A.map (fun y => (tx u y, iv_ u y 2)) := List.map_congr_left (fun y hy => old y (y1.en y (by rw [hS]; simp [hy])) (hne y (by simp [hy])))
      have eB : B.map (fun y => (tx (wI_ u e 2 w) y, iv_ (wI_ u e 2 w) y 2)) = B.map (fun y => (tx u y, iv_ u y 2)) := List.map_congr_left (fun y hy => old y (y1.en y (by rw [hS]; simp [hy])) (hne y (by simp [hy])))
      rw [eA, eB]
    · rw [if_neg z, y5]
      refine (List.map_congr_left (fun y hy => old y (y1.en y hy) (fun q => ?_))).symm
      exact hT.2.2 i k hi hk (fun q => z q.symm) e heS (q ▸ hy)
  · obtain ⟨-, -, ⟨lo, hi', ⟨q1, -⟩, -⟩, -⟩ := hV.1 j vs hj
    rw [z, en.2] at q1
    omega
  · obtain ⟨⟨c1, c2, c3, c4, c5, c6, c7⟩, c8⟩ := hX
    have fr : ∀ {r : Nat} {S : List Int}, RO (x + 64) u r S → RO (x + 64) (wI_ u e 2 w) r S := fun hr => RO.frame (fun a ha => sm a (fun z => by rw [z, en.2] at ha; omega)) (fun a ha _ => sm a (fun z => by rw [z, en.2] at ha; omega)) hr
    have e22 : ∀ a, a < x + 64 → iv_ (wI_ u e 2 w) a = iv_ u a := fun a ha => funext (sm a (by omega)).2.2.1
    refine ⟨⟨c1, fr c2, c3, fun j O hj => fr (c4 j O hj), by rw [e22 _ (by omega)]; exact c5, c6, c7⟩, ?_⟩
    rw [e22 (x + 22) (by omega), e22 (x + 24) (by omega), e22 (x + 25) (by omega), e22 (x + 27) (by omega)]
    exact c8
theorem t_hput1 (l : Launch) (hst : l.stackTraces = false) (u : Mem) {x : Nat} {i w : Int} {tp fd : List Int} {M : Nat → List KV} {ch : Nat → Int} {VL : List VS} {Ks : List (List Int)} {T : List Int} {Os : List (List Int)} (h : HS u x tp fd M ch VL Ks T Os) (ri : rng i) (hn : ¬ (0 ≤ i ∧ i < VL.length)) : Th_ l yX1_put cX1_put 7 (some .int) 602 20 480 [aR x, aI i, aI w] u (qTh 19 x u tp fd M ch VL Ks T Os) := by
  have kx := h.2.1.1
  refine Th_of (by decide) (Nat.le_of_ble_eq_true rfl) (fun X ho hT hX hN => ?_)
  subst hX
  show Z X 0 [some (aR x), some (aI i), some (aI w), none, none, none, none] [] u 0 0
  refine z_wf (fun hw => ?_)
  refine z_aload_n ho dX1_put_0 rfl ?_
  refine z_iload_n ho dX1_put_1 rfl ?_
  refine tX1_91 ho hT hN (t_of_ _ hst _ h.2.1 ri hn) dX1_put_2 kx (Nat.le_of_ble_eq_true rfl) (Nat.le_of_ble_eq_true rfl) (Nat.le_of_ble_eq_true rfl) (Nat.le_of_ble_eq_true rfl) (fun x2 u2 h2 => ?_)
  exact qTh_ex h hw h2
/-- a new entry -/
theorem newEn {u : Mem} {k : Nat} {w : Int} (hw : Wf u) (hk : Ky u k) (v : Mem) (hv : v = wI_ (cpy (wR_ (al_ (al_ u 14 0) 101 8) (sz_ u) 0 (sz_ u + 1)) (sz_ u) k) (sz_ u) 2 w) : En v (sz_ u) ∧ tx v (sz_ u) = tx u k ∧ iv_ v (sz_ u) 2 = w ∧ sz_ v = sz_ u + 2 ∧ ∀ a, a < sz_ u → Sm u v a := by
  obtain ⟨n1, n2, n3, n4, n5, n6⟩ := nky_facts (u := u) (K := 14) (Or.inr rfl)
  have hl := hk.lt hw
  have k1 := hk.ex hw n5 (fun z => z) (fun z => z)
  obtain ⟨c1, c2, c3, c4⟩ := cpy_facts n1 k1.1 (by omega) (fun i _ _ => by rw [n4]; decide)
  have hv' : v = wI_ (cpy (nky u 14) (sz_ u) k) (sz_ u) 2 w := hv
  have s1 : Ky v (sz_ u) ∧ tx v (sz_ u) = tx (cpy (nky u 14) (sz_ u) k) (sz_ u) := by
    obtain ⟨q1, q2, q3, q4, q5, q6, q7⟩ := c1
    have e1 : iv_ v (sz_ u) 1 = iv_ (cpy (nky u 14) (sz_ u) k) (sz_ u) 1 := by rw [hv', iv_wI, if_neg (by omega)]
    have e2 : ∀ j, iv_ v (sz_ u + 1) j = iv_ (cpy (nky u 14) (sz_ u) k) (sz_ u + 1) j := fun j => by rw [hv', iv_wI, if_neg (by omega)]
    refine ⟨⟨by rw [hv']; exact q1, by rw [hv']; exact q2, by rw [hv']; exact q3, by rw [hv']; exact q4, by rw [e1]; exact q5, by rw [e1]; exact q6, fun j q1 q2 => by rw [e2]; exact q7 j q1 q2⟩, ?_⟩
    unfold tx
    rw [e1]
    exact seg_ext (fun j _ _ => e2 j)
  refine ⟨⟨s1.1, by rw [hv']; exact n6⟩, by rw [s1.2, c2]; exact k1.2, by rw [hv', iv_wI, if_pos ⟨rfl, rfl⟩], by rw [hv']; exact n2, fun a ha => ?_⟩
  rw [hv']
  exact ((n5.2 a ha (fun z => z)).tr (c3 a (by omega) (by omega))).tr (Sm.wI (by omega))
theorem t_hput2 (l : Launch) (hst : l.stackTraces = false) (u : Mem) {x : Nat} {i w : Int} {tp fd : List Int} {M : Nat → List KV} {ch : Nat → Int} {VL : List VS} {Ks : List (List Int)} {T : List Int} {Os : List (List Int)} {vs : VS} (h : HS u x tp fd M ch VL Ks T Os) (h0 : 0 ≤ i) (hj : VL[i.toNat]? = some vs) (rw_ : rng w) (hn : w < 0 ∨ ¬ vs.2.1 tp) : Th_ l yX1_put cX1_put 7 (some .int) 602 20 480 [aR x, aI i, aI w] u (qTh 20 x u [] fd M ch VL Ks T Os) := by
  have kx := h.2.1.1
  have g1 := h.1.1
  have hjl := (List.getElem?_eq_some_iff.mp hj).1
  have ei : (i.toNat : Int) = i := Int.toNat_of_nonneg h0
  obtain ⟨S, hTr, hV, hv, hSl⟩ := h.view hj
  refine Th_of (by decide) (Nat.le_of_ble_eq_true rfl) (fun X ho hT hX hN => ?_)
  subst hX
  show Z X 0 [some (aR x), some (aI i), some (aI w), none, none, none, none] [] u 0 0
  refine z_wf (fun hw => ?_)
  refine z_aload_n ho dX1_put_0 rfl ?_
  refine z_iload_n ho dX1_put_1 rfl ?_
  refine kX1_91 ho hN (c_of_ _ _ h.2.1 h0 (by omega)) dX1_put_2 kx (by omega) (Nat.le_of_ble_eq_true rfl) (Nat.le_of_ble_eq_true rfl) (Nat.le_of_ble_eq_true rfl) (fun x2 u2 h2 => ?_)
  obtain ⟨rfl, rfl⟩ := h2
  refine z_astore_n ho dX1_put_5 (Nat.le_of_ble_eq_true rfl) rfl ?_
  refine z_aload_n ho dX1_put_6 rfl ?_
  refine kX1_95 ho hN (c_use _ _ h) dX1_put_7 kx (by omega) (Nat.le_of_ble_eq_true rfl) (Nat.le_of_ble_eq_true rfl) (Nat.le_of_ble_eq_true rfl) (fun x7 u7 h7 => ?_)
  obtain ⟨rfl, u2, u3, u4, u5, u6⟩ := h7
  refine z_wf (fun hw1 => ?_)
  have M1 : MR x u u7 := ⟨by omega, fun a q1 q2 => u6 a (by omega) (by omega) (by omega)⟩
  obtain ⟨hT1, hV1, hK1⟩ := h.keepS hTr hV hw (by omega) u5 (fun a ha hn => u6 a (fun z => hn (Or.inl z)) (fun z => hn (by unfold kC; simp [z])) (fun z => hn (by unfold kC; simp [z])))
  have s3 := u6 (x + 3) (by omega) (by omega) (by omega)
  have hv' := hV1.1 i.toNat vs hj
  rw [s3.2.2.2, ei] at hv'
  obtain ⟨v1, v2, ⟨lo, hi, hVw, hR⟩, -⟩ := hv'
  have htp : Tx tp := by have := u2.1.Tx; rw [u2.2.2] at this; exact this
  have t25 : Z X 25 [some (aR x), some (aI i), some (aI w), some (aR (rv_ u (x + 3) i)), some (aR (x + 28)), none, none] [] u7 (0 + 1 + 0) (0 + 6 + 0) := by
    refine tx_20 ho hT hst hN (sidx := 121) (tx := "not to be put") (by simp [nestS_]) dX1_put_25 dX1_put_28 dX1_put_29 dX1_put_31 dX1_put_34 (by omega) (by omega) (Nat.le_of_ble_eq_true rfl) (Nat.le_of_ble_eq_true rfl) ?_
    exact qTh_tr M1 (qTh_ex u3 hw1 ⟨rfl, rfl⟩)
  refine z_astore ho dX1_put_10 (Nat.le_of_ble_eq_true rfl) rfl ?_
  refine z_iload_n ho dX1_put_12 rfl ?_
  refine z_if_lt (tgt := 25) ho dX1_put_13 (by decide) rw_ (fun c13 => ?_) (fun c13 => ?_)
  · exact t25
  · 
    refine z_aload_n ho dX1_put_16 rfl ?_
    refine z_aload ho dX1_put_17 rfl ?_
    refine kX1_115 ho hN (c_has _ _ hVw u2.1) dX1_put_19 hVw.1 (by omega) (Nat.le_of_ble_eq_true rfl) (Nat.le_of_ble_eq_true rfl) (Nat.le_of_ble_eq_true rfl) (fun x19 u19 h19 => ?_)
    obtain ⟨rfl, hq⟩ := h19
    refine z_if_ne (tgt := 35) ho dX1_put_22 (by decide) (by rcases hq with ⟨z, -⟩ | ⟨z, -⟩ <;> rw [z] <;> unfold rng <;> omega) (fun c22 => ?_) (fun c22 => ?_)
    · exfalso
      rw [u2.2.2] at hq
      rcases hq with ⟨-, z⟩ | ⟨z, -⟩
      · rcases hn with y | y
        · omega
        · exact y ((hR tp htp).mp z)
      · exact c22 z
    · exact t25
theorem c_hput (l : Launch) (u : Mem) {x : Nat} {i w : Int} {tp fd : List Int} {M : Nat → List KV} {ch : Nat → Int} {VL : List VS} {Ks : List (List Int)} {T : List Int} {Os : List (List Int)} {vs : VS} (h : HS u x tp fd M ch VL Ks T Os) (h0 : 0 ≤ i) (hj : VL[i.toNat]? = some vs) (hw0 : 0 ≤ w) (hw1' : rng w) (hin : vs.2.1 tp) (hc : ∀ k, k < 3 → ch k < 1000000) (hl : ∀ k, k < 3 → (M k).length < 39) :
    Mt_ l yX1_put cX1_put 7 (some .int) 602 20 480 [aR x, aI i, aI w] u (qI fun r v => MR x u v ∧ ((∃ A B w0, M vs.1 = A ++ (tp, w0) :: B ∧ (∀ p ∈ A ++ B, p.1 ≠ tp) ∧ r = w0 ∧ HS v x [] fd (fun k => if k = vs.1 then A ++ (tp, w) :: B else M k) ch VL Ks T Os) ∨ ((∀ p ∈ M vs.1, p.1 ≠ tp) ∧ r = -1 ∧ HS v x [] fd (fun k => if k = vs.1 then M vs.1 ++ [(tp, w)] else M k) (fun k => if k = vs.1 then ch vs.1 + 1 else ch k) VL Ks T Os))) := by
  have kx := h.2.1.1
  have g1 := h.1.1
  have hjl := (List.getElem?_eq_some_iff.mp hj).1
  have ei : (i.toNat : Int) = i := Int.toNat_of_nonneg h0
  obtain ⟨S, hT, hV, hv, hSl⟩ := h.view hj
  refine Mt_of (by decide) (Nat.le_of_ble_eq_true rfl) (fun X ho hX hN hI => ?_)
  subst hX
  show Z X 0 [some (aR x), some (aI i), some (aI w), none, none, none, none] [] u 0 0
  refine z_wf (fun hw => ?_)
  refine z_aload_n ho dX1_put_0 rfl ?_
  refine z_iload_n ho dX1_put_1 rfl ?_
  refine kX1_91 ho hN (c_of_ _ _ h.2.1 h0 (by omega)) dX1_put_2 kx (by omega) (Nat.le_of_ble_eq_true rfl) (Nat.le_of_ble_eq_true rfl) (Nat.le_of_ble_eq_true rfl) (fun x2 u2 h2 => ?_)
  obtain ⟨rfl, rfl⟩ := h2
  refine z_astore_n ho dX1_put_5 (Nat.le_of_ble_eq_true rfl) rfl ?_
  refine z_aload_n ho dX1_put_6 rfl ?_
  refine kX1_95 ho hN (c_use _ _ h) dX1_put_7 kx (by omega) (Nat.le_of_ble_eq_true rfl) (Nat.le_of_ble_eq_true rfl) (Nat.le_of_ble_eq_true rfl) (fun x7 u7 h7 => ?_)
  obtain ⟨rfl, u2, u3, u4, u5, u6⟩ := h7
  refine z_wf (fun hw1 => ?_)
  have M1 : MR x u u7 := ⟨by omega, fun a q1 q2 => u6 a (by omega) (by omega) (by omega)⟩
  obtain ⟨hT1, hV1, hK1⟩ := h.keepS hT hV hw (by omega) u5 (fun a ha hn => u6 a (fun z => hn (Or.inl z)) (fun z => hn (by unfold kC; simp [z])) (fun z => hn (by unfold kC; simp [z])))
  have s3 := u6 (x + 3) (by omega) (by omega) (by omega)
  have hv' := hV1.1 i.toNat vs hj
  rw [s3.2.2.2, ei] at hv'
  obtain ⟨v1, v2, ⟨lo, hi, hVw, hR⟩, -⟩ := hv'
  have htp : Tx tp := by have := u2.1.Tx; rw [u2.2.2] at this; exact this
  obtain ⟨y1, y2, y3, y4, y5, y6⟩ := hT1.2.1 vs.1 v2
  refine z_astore ho dX1_put_10 (Nat.le_of_ble_eq_true rfl) rfl ?_
  refine z_iload_n ho dX1_put_12 rfl ?_
  refine z_if_lt (tgt := 25) ho dX1_put_13 (by decide) hw1' (fun c13 => ?_) (fun c13 => ?_)
  · omega
  · 
    refine z_aload_n ho dX1_put_16 rfl ?_
    refine z_aload ho dX1_put_17 rfl ?_
    refine kX1_115 ho hN (c_has _ _ hVw u2.1) dX1_put_19 hVw.1 (by omega) (Nat.le_of_ble_eq_true rfl) (Nat.le_of_ble_eq_true rfl) (Nat.le_of_ble_eq_true rfl) (fun x19 u19 h19 => ?_)
    obtain ⟨rfl, hq⟩ := h19
    refine z_if_ne (tgt := 35) ho dX1_put_22 (by decide) (by rcases hq with ⟨z, -⟩ | ⟨z, -⟩ <;> rw [z] <;> unfold rng <;> omega) (fun c22 => ?_) (fun c22 => ?_)
    · 
      refine z_aload_n ho dX1_put_35 rfl ?_
      refine gX1_124 ho dX1_put_36 hVw.1 ?_
      rw [hVw.2.1]
      refine z_aload ho dX1_put_39 rfl ?_
      refine or_call3 (y1.k3) (fun hq cc => kX1_128_4 ho hN (c_R4_get _ _ y1 u2.1 hq) dX1_put_41 hq (by omega) (Nat.le_of_ble_eq_true rfl) (Nat.le_of_ble_eq_true rfl) (Nat.le_of_ble_eq_true rfl) cc) (fun hq cc => kX1_128_5 ho hN (c_R5_get _ _ y1 u2.1 hq) dX1_put_41 hq (by omega) (Nat.le_of_ble_eq_true rfl) (Nat.le_of_ble_eq_true rfl) (Nat.le_of_ble_eq_true rfl) cc) (fun hq cc => kX1_128_12 ho hN (c_R12_get _ _ y1 u2.1 hq) dX1_put_41 hq (by omega) (Nat.le_of_ble_eq_true rfl) (Nat.le_of_ble_eq_true rfl) (Nat.le_of_ble_eq_true rfl) cc) (fun x41 u41 h41 => ?_)
      obtain ⟨p1, p2, p3, p4, p5⟩ := h41
      refine z_wf (fun hw2 => ?_)
      have hK2' : Kp_ x u7 u41 := ⟨p3.1, fun a ha => ⟨(p3.2 a ha).1, (p3.2 a ha).2.1⟩, fun a ha hE hk => (p3.2 a ha).2.2 (fun z => by
          have h3 := tA_3 x vs.1
          unfold QT Sc K5 at z
          omega)⟩
      have hen : ∀ e ∈ S vs.1, En u41 e ∧ tx u41 e = tx u7 e ∧ ∀ i, iv_ u41 e i = iv_ u7 e i := fun e he => hK2'.en hw1 (y1.en e he) (y6 e he)
      have h5 : M vs.1 = (S vs.1).map (fun e => (tx u41 e, iv_ u41 e 2)) := by
        rw [y5]
        exact List.map_congr_left (fun e he => by rw [(hen e he).2.1, (hen e he).2.2])
      have hSl1 : (S vs.1).length < 39 := by have := hl vs.1 v2; rw [y5, List.length_map] at this; exact this
      obtain ⟨r1, r2, r3, r4, hK2⟩ := u3.tree hw1 v2 hT1 hV1 p3 p2 (by rw [p5 0 (by decide)]; exact y2) (by rw [p5 1 (by decide)]; exact y3) y4 (L' := M vs.1) h5 y6 (fun k hk hne e he => hT1.2.2 vs.1 k v2 hk (fun z => hne z.symm) e he) (by omega) (h.1.2.1 vs.1 v2).2 (Or.inl ⟨rfl, rfl⟩)
      rw [upd_self M vs.1, upd_self ch vs.1] at r1
      rw [upd_self S vs.1, upd_self M vs.1, upd_self ch vs.1] at r3
      rw [upd_self S vs.1, upd_self ch vs.1] at r4
      have sA : Sm u7 u41 (rv_ u (x + 3) i) := (p3.2 _ (hw1.1 _ (by have := hVw.1; omega)).1).2.2 (fun z => by
        have k11 := hVw.1
        have hkt := tA_kd hT1 v2
        rcases z with z | z
        · unfold Sc K5 at z; omega
        · rw [z] at k11; omega)
      have kV : kd_ u41 (rv_ u (x + 3) i) = 11 := by rw [sA.1]; exact hVw.1
      have eV : rv_ u41 (rv_ u (x + 3) i) 0 = tA x vs.1 := by rw [sA.2.2.2]; exact hVw.2.1
      have hkH : HK u41 (x + 28) tp := by
        have k1 := u2.2.1
        have k2 := u2.1.2.2.1
        have hll := u2.1.lt hw1
        have h3 := tA_3 x vs.1
        refine u2.same ((p3.2 _ hll.1).2.2 (fun z => ?_)) ((p3.2 _ hll.2.1).2.2 (fun z => ?_))
        · unfold QT Sc K5 at z; omega
        · unfold QT Sc K5 at z; omega
      obtain ⟨x1, x2, x3, x4, x5, x6⟩ := r3.2.1 vs.1 v2
      have MM := M1.tr r2
      rcases get_M y1 (by omega) y4 y5 p1 with ⟨z1, z2⟩ | ⟨z1, z2, A, B, z3, z4, z5, z6⟩
      · -- a new entry
        rw [u2.2.2] at z2
        have hz41 := hw2.2.2
        have hn41 := r1.1.1
        -- the entry
        have hkt : isT_ u41 (tA x vs.1) := by unfold isT_; exact x1.k3
        refine z_astore ho dX1_put_44 (Nat.le_of_ble_eq_true rfl) rfl ?_
        refine z_aload ho dX1_put_46 rfl ?_
        refine z_ifnull (tgt := 67) ho dX1_put_48 (by decide) (fun c48 => ?_) (fun c48 => ?_)
        · 
          refine z_aload_n ho dX1_put_67 rfl ?_
          refine gX1_124 ho dX1_put_68 kV ?_
          rw [eV]
          refine gX1_139 ho dX1_put_71 hkt ?_
          rw [x2]
          refine z_bipush ho dX1_put_74 rfl ?_
          refine z_icmp_ne (tgt := 89) ho dX1_put_76 (by decide) (by unfold rng; omega) (by unfold rng; omega) (fun c76 => ?_) (fun c76 => ?_)
          · have hkl := hkH.1.lt hw2
            have S1 : ∀ a, a < sz_ u41 → Sm u41 (al_ u41 14 0) a := fun a ha => Sm.al (by omega)
            have hk1 := hkH.1.same (S1 _ hkl.1) (S1 _ hkl.2.1)
            refine z_aload_n ho dX1_put_89 rfl ?_
            refine gX1_124 ho dX1_put_90 kV ?_
            rw [eV]
            refine nX1_135 ho dX1_put_93 (Nat.le_of_ble_eq_true rfl) (Nat.le_of_ble_eq_true rfl) ?_
            refine z_dup ho dX1_put_96 rfl ?_
            refine z_aload ho dX1_put_97 rfl ?_
            refine z_iload_n ho dX1_put_99 rfl ?_
            refine kX1_147 ho hN (c_Entry_init _ _ (by rw [kd_al, if_pos rfl]) rfl hk1.1 (by omega)) dX1_put_100 (by omega) (by omega) (Nat.le_of_ble_eq_true rfl) (Nat.le_of_ble_eq_true rfl) (Nat.le_of_ble_eq_true rfl) (fun u100 h100 => ?_)
            obtain hq' := h100
            rw [h100]
            obtain ⟨w1, w2, w3, w4, w5⟩ := newEn (w := w) hw2 hkH.1 _ rfl
            generalize hg : wI_ (cpy (wR_ (al_ (al_ u41 14 0) 101 8) (sz_ u41) 0 (sz_ u41 + 1)) (sz_ u41) (x + 28)) (sz_ u41) 2 w = v at w1 w2 w3 w4 w5
            refine z_wf (fun hw3 => ?_)
            have S2 : ∀ a, a < sz_ u41 → Sm u41 v a := w5
            have H2 := r1.grow hw2 (by omega) S2
            obtain ⟨hT3, hV3, hK3⟩ := r1.keepS r3 r4 hw2 (by omega) (fun a ha => ⟨(S2 a ha).1, (S2 a ha).2.1⟩) (fun a ha _ => S2 a ha)
            obtain ⟨e1, e2, e3, e4, e5, e6⟩ := hT3.2.1 vs.1 v2
            have gl := hG_lt (u := v) (x := x) (by omega)
            have ktv : kd_ v (tA x vs.1) = kd_ u41 (tA x vs.1) := (S2 _ (hw2.1 _ (by have := x1.k3; omega)).1).1
            have hnew : ∀ y ∈ S vs.1, tx v y ≠ tx v (sz_ u41) := fun y hy => by
              rw [w2, hkH.2.2]
              exact z2 (tx v y, iv_ v y 2) (by rw [e5]; exact List.mem_map_of_mem hy)
            have hlt41 : ∀ k, k < 3 → ∀ y ∈ S k, y < sz_ u41 := fun k hk y hy => ((r3.2.1 k hk).1.en y hy).1.lt hw2 |>.1
            refine kX1_150 ho hN (c_add _ _ e1 gl (by omega) w1 hnew) dX1_put_103 (by unfold isT_; exact e1.k3) (by omega) (Nat.le_of_ble_eq_true rfl) (Nat.le_of_ble_eq_true rfl) (Nat.le_of_ble_eq_true rfl) (fun u103 h103 => ?_)
            obtain ⟨p6, p7, p8, p9⟩ := h103
            refine z_iconst ho dX1_put_106 ?_
            refine r_I ho dX1_put_107 (Nat.le_of_ble_eq_true rfl) (Nat.le_of_ble_eq_true rfl) ?_
            have hen' : ∀ y, En v y → x + 64 ≤ y → tx u103 y = tx v y ∧ ∀ i, iv_ u103 y i = iv_ v y i := fun y hy hE => by
              have hKr : Kp_ x v u103 := ⟨p7.1, fun a ha => ⟨(p7.2 a ha).1, (p7.2 a ha).2.1⟩, fun a ha hE hk => (p7.2 a ha).2.2 (fun z => by
                have h3 := tA_3 x vs.1
                unfold QT Sc K5 at z
                omega)⟩
              exact (hKr.en hw3 hy hE).2
            have hrc := (h.1.2.1 vs.1 v2).2
            have hcc := hc vs.1 v2
            have hmm : ∀ y, y ∈ S vs.1 ++ [sz_ u41] ↔ y ∈ S vs.1 ∨ y = sz_ u41 := fun y => by simp
            obtain ⟨r5, r6, -⟩ := H2.tree hw3 v2 hT3 hV3 p7 (p6 (S vs.1 ++ [sz_ u41]) hmm) (by rw [p8, e2, List.length_append]; simp) p9 (List.nodup_append.mpr ⟨e4, by simp, fun a ha b hb => by
              have := hlt41 _ v2 a ha
              simp at hb
              omega⟩) (L' := M vs.1 ++ [(tp, w)]) (by
              rw [List.map_append, e5]
              congr 1
              · exact List.map_congr_left (fun y hy => by have := hen' y (e1.en y hy) (e6 y hy); rw [this.1, this.2])
              · have := hen' _ w1 hn41
                simp only [List.map_cons, List.map_nil]
                rw [this.1, this.2, w2, w3, hkH.2.2]) (fun y hy => by
              rcases (hmm y).mp hy with q | q
              · exact e6 y q
              · omega) (fun k hk hne y hy hyk => by
              rcases (hmm y).mp hy with q | q
              · exact hT3.2.2 vs.1 k v2 hk (fun z => hne z.symm) y q hyk
              · have := hlt41 k hk y hyk; omega) (by rw [List.length_append]; simp; omega) (by rw [e3]; unfold rng at hrc ⊢; omega) (Or.inr (by rw [e3]; omega))
            rw [e3] at r5
            refine ⟨(MM.tr ⟨by omega, fun a q1 q2 => S2 a (by omega)⟩).tr r6, Or.inr ⟨z2, rfl, r5⟩⟩
          · omega
        · exact absurd z1 c48
      · -- its value changes
        have en := x1.en _ z1
        have hen0 := en.ne0 hw2
        rw [u2.2.2] at z4 z5
        have eA : A.map (fun e => (tx u41 e, iv_ u41 e 2)) = A.map (fun e => (tx u7 e, iv_ u7 e 2)) := List.map_congr_left (fun e he => by have := hen e (by rw [z3]; simp [he]); rw [this.2.1, this.2.2])
        have eB : B.map (fun e => (tx u41 e, iv_ u41 e 2)) = B.map (fun e => (tx u7 e, iv_ u7 e 2)) := List.map_congr_left (fun e he => by have := hen e (by rw [z3]; simp [he]); rw [this.2.1, this.2.2])
        refine z_astore ho dX1_put_44 (Nat.le_of_ble_eq_true rfl) rfl ?_
        refine z_aload ho dX1_put_46 rfl ?_
        refine z_ifnull (tgt := 67) ho dX1_put_48 (by decide) (fun c48 => ?_) (fun c48 => ?_)
        · exact absurd c48 hen0
        · 
          refine z_aload ho dX1_put_51 rfl ?_
          refine gX1_134 ho dX1_put_53 en.2 ?_
          refine z_istore ho dX1_put_56 (Nat.le_of_ble_eq_true rfl) rfl ?_
          refine z_aload ho dX1_put_58 rfl ?_
          refine z_iload_n ho dX1_put_60 rfl ?_
          refine pX1_134 ho dX1_put_61 en.2  ?_
          refine z_iload ho dX1_put_64 rfl ?_
          refine r_I ho dX1_put_66 (Nat.le_of_ble_eq_true rfl) (Nat.le_of_ble_eq_true rfl) ?_
          obtain ⟨s1, s2⟩ := r1.val (w := w) hw2 v2 r3 r4 z3 z6
          refine ⟨MM.tr s2, Or.inl ⟨_, _, _, z4, z5, (hen _ z1).2.2 2, ?_⟩⟩
          rw [eA, eB, (hen _ z1).2.1, z2, u2.2.2] at s1
          exact s1
    · exfalso
      rw [u2.2.2] at hq
      rcases hq with ⟨z, -⟩ | ⟨-, z⟩
      · omega
      · exact z ((hR tp htp).mpr hin)
