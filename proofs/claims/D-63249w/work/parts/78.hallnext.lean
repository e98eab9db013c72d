set_option maxRecDepth 100000
/-! ===== KeyHall.next, drop ===== -/
theorem qI_mono {q q' : Int → Mem → Prop} (h : ∀ r u, q r u → q' r u) : ∀ r u, qI q r u → qI q' r u := by
  rintro r u ⟨x, h1, h2⟩
  exact ⟨x, h1, h x u h2⟩
/-- one view's iterator changes -/
theorem HV1.upd {u v : Mem} {x A : Nat} {S S' : Nat → List Nat} {ch ch' : Nat → Int} {vs : VS} {b s c : Int} {t : Option (List Int)} (h : HV1 u x S ch A vs) (hw : Wf u) (hs : ∀ a, a ≠ A → Sm u v a) (hkl : ∀ a, kd_ v a = kd_ u a ∧ ln_ v a = ln_ u a) (hr : ∀ k, k ≠ 6 → rv_ v A k = rv_ u A k) (hi3 : iv_ v A 3 = iv_ u A 3) (h4 : iv_ v A 4 = b ∧ (b = 0 ∨ b = 1)) (h5 : iv_ v A 5 = s ∧ rng s) (h6 : (rv_ v A 6 = 0 ∧ t = none) ∨ (En v (rv_ v A 6) ∧ x + 64 ≤ rv_ v A 6 ∧ t = some (tx v (rv_ v A 6)))) (h7 : iv_ v A 7 = c ∧ (c = 0 ∨ c = 1)) (h8 : c = 1 → b = 1 → s = ch' vs.1 → rv_ v A 6 ∈ S' vs.1) (h9 : b = 1 → s ≤ ch' vs.1) : HV1 v x S' ch' A (vs.1, vs.2.1, vs.2.2.1, b, s, t, c) := by
  obtain ⟨v1, v2, ⟨lo, hi, hVw, hR⟩, v4, v5, v6, -⟩ := h
  have hka := hVw.1
  have ko : ∀ {k : Nat} {o : Option (List Int)}, KyO u k o → KyO v k o := fun {k o} hko => by
    rcases hko with z | ⟨z, e⟩
    · exact Or.inl z
    · have hk := z.kd
      have h2 := z.2.2.1
      have := z.same (hs k (fun q => by rw [q] at hk; omega)) (hs (k + 1) (fun q => by rw [q] at h2; omega))
      exact Or.inr ⟨this.1, by rw [this.2]; exact e⟩
  exact ⟨v1, v2, ⟨lo, hi, ⟨by rw [(hkl _).1]; exact hVw.1, by rw [hr 0 (by decide)]; exact hVw.2.1, by rw [hr 1 (by decide)]; exact ko hVw.2.2.1, by rw [hr 2 (by decide)]; exact ko hVw.2.2.2⟩, hR⟩, by rw [hr 1 (by decide), (hkl _).1]; exact v4, by rw [hr 2 (by decide), (hkl _).1]; exact v5, by rw [hi3]; exact v6, h4, h5, h6, h7, h8, h9⟩
/-- whether a view's iterator is current -/
def Cur (vs : VS) (ch : Nat → Int) : Prop := vs.2.2.2.1 = 1 ∧ vs.2.2.2.2.1 = ch vs.1
theorem c_cur (l : Launch) (u : Mem) {x A : Nat} {S : Nat → List Nat} {M : Nat → List KV} {ch : Nat → Int} {vs : VS} (hT : HT u x S M ch) (hv : HV1 u x S ch A vs) (hc : rng (ch vs.1)) : Mt_ l yX11_isCurrent cX11_isCurrent 1 (some .boolean) 0 0 0 [aR A] u (qI fun r u' => u = u' ∧ qB r (Cur vs ch)) := by
  obtain ⟨v1, v2, ⟨lo, hi, hVw, hR⟩, v4, v5, v6, v7, v8, -⟩ := hv
  have hch := (hT.2.1 vs.1 v2).2.2.1
  have k3 := (hT.2.1 vs.1 v2).1.k3
  refine (c_isCurrent l u hVw.1 (by rw [hVw.2.1]; unfold isT_; exact k3) (by rw [v7.1]; exact v7.2) (by rw [v8.1]; exact v8.2) (by rw [hVw.2.1, hch]; exact hc)).weak (Nat.le_refl _) (Nat.le_refl _) (Nat.le_refl _) (qI_mono (fun r v ⟨e, h1⟩ => ⟨e, ?_⟩))
  rw [v7.1, v8.1, hVw.2.1, hch] at h1
  exact h1
def stO (o : Option (List Int)) : Int := match o with
  | none => 0
  | some _ => 1
theorem c_hnext (l : Launch) (u : Mem) {x : Nat} {i : Int} {tp fd : List Int} {M : Nat → List KV} {ch : Nat → Int} {VL : List VS} {Ks : List (List Int)} {T : List Int} {Os : List (List Int)} {vs : VS} {p : KV} (h : HS u x tp fd M ch VL Ks T Os) (h0 : 0 ≤ i) (hj : VL[i.toNat]? = some vs) (hcu : Cur vs ch) (hf : Nr vs.2.2.1 vs.2.1 vs.2.2.2.2.2.1 (stO vs.2.2.2.2.2.1) (M vs.1) (some p)) :
    Mt_ l yX1_next cX1_next 5 (some .int) 1104 2 12 [aR x, aI i] u (qI fun r v => r = p.2 ∧ MR x u v ∧ HS v x tp p.1 M ch (VL.set i.toNat (vs.1, vs.2.1, vs.2.2.1, vs.2.2.2.1, vs.2.2.2.2.1, some p.1, 1)) Ks T Os) := by
  have kx := h.2.1.1
  have g1 := h.1.1
  have hjl := (List.getElem?_eq_some_iff.mp hj).1
  have ei : (i.toNat : Int) = i := Int.toNat_of_nonneg h0
  obtain ⟨S, hTr, hV, hv, hSl⟩ := h.view hj
  rw [ei] at hv
  have v2 := hv.2.1
  have hka : kd_ u (rv_ u (x + 3) i) = 11 := by obtain ⟨-, -, ⟨lo, hi, ⟨q1, -⟩, -⟩, -⟩ := hv; exact q1
  have v9 := hv.2.2.2.2.2.2.2.2.1
  refine Mt_of (by decide) (Nat.le_of_ble_eq_true rfl) (fun X ho hX hN hI => ?_)
  subst hX
  show Z X 0 [some (aR x), some (aI i), none, none, none] [] u 0 0
  refine z_wf (fun hw => ?_)
  have fin : ∀ (e : Nat), isP u (S vs.1) e (some p) → Z X 43 [some (aR x), some (aI i), some (aR (rv_ u (x + 3) i)), none, none] [aR e] u 1 6 := by
    intro e hr
    obtain ⟨p', hp', m1, m2, m3⟩ := hr.resolve_left (fun z => by cases z.1)
    cases hp'
    have en := (hTr.2.1 vs.1 v2).1.en _ m1
    have hE := (hTr.2.1 vs.1 v2).2.2.2.2.2 _ m1
    refine z_astore_n ho dX1_next_43 (Nat.le_of_ble_eq_true rfl) rfl ?_
    refine z_aload_n ho dX1_next_44 rfl ?_
    refine z_aload_n ho dX1_next_45 rfl ?_
    refine kX1_174 ho hN (c_tell_ _ _ h en hE) dX1_next_46 kx (by omega) (Nat.le_of_ble_eq_true rfl) (by omega) (by omega) (fun x46 u46 h46 => ?_)
    obtain ⟨g1', g2, g3, g4, g5⟩ := h46
    refine z_wf (fun hw1 => ?_)
    obtain ⟨hT1, hV1, hK1⟩ := h.keepS hTr hV hw (by omega) g4 (fun a ha hn => g5 a (fun z => hn (by unfold kC; simp [z])) (fun z => hn (by unfold kC; simp [z])))
    have s3 := g5 (x + 3) (by omega) (by omega)
    have hv1 := hV1.1 i.toNat vs hj
    rw [s3.2.2.2, ei] at hv1
    have hka1 : kd_ u46 (rv_ u (x + 3) i) = 11 := by obtain ⟨-, -, ⟨lo, hi, ⟨q1, -⟩, -⟩, -⟩ := hv1; exact q1
    have en1 := hK1.en hw en hE
    refine z_istore ho dX1_next_49 (Nat.le_of_ble_eq_true rfl) rfl ?_
    refine z_aload_n ho dX1_next_51 rfl ?_
    refine z_aload_n ho dX1_next_52 rfl ?_
    refine pX1_194 ho dX1_next_53 hka1  ?_
    refine z_aload_n ho dX1_next_56 rfl ?_
    refine z_iconst ho dX1_next_57 ?_
    refine pX1_198 ho dX1_next_58 hka1 (by omega) ?_
    refine z_iload ho dX1_next_61 rfl ?_
    refine r_I ho dX1_next_63 (Nat.le_of_ble_eq_true rfl) (Nat.le_of_ble_eq_true rfl) ?_
    have hr3 : rv_ u46 (x + 3) (i.toNat : Int) = rv_ u (x + 3) i := by rw [s3.2.2.2, ei]
    generalize hA : rv_ u (x + 3) i = A at *
    have hs : ∀ a, a ≠ A → Sm u46 (wI_ (wR_ u46 A 6 e) A 7 1) a := fun a ha => (Sm.wR ha).tr (Sm.wI ha)
    have hv' : HV1 (wI_ (wR_ u46 A 6 e) A 7 1) x S ch A (vs.1, vs.2.1, vs.2.2.1, vs.2.2.2.1, vs.2.2.2.2.1, some p.1, 1) := by
      obtain ⟨-, -, -, -, -, -, v7, v8, -, -, -, v12⟩ := hv1
      have e6 : rv_ (wI_ (wR_ u46 A 6 e) A 7 1) A 6 = e := by rw [rv_wI, rv_wR, if_pos ⟨rfl, rfl⟩]
      have hne : e ≠ A := fun z => by have := en1.1.2; rw [z] at this; omega
      have hne1 : e + 1 ≠ A := fun z => by have := en1.1.1.2.2.1; rw [z] at this; omega
      have ee := en1.1.1.same (hs e hne) (hs (e + 1) hne1)
      refine (hV1.1 i.toNat vs hj |> fun q => by rw [hr3] at q; exact q : HV1 u46 x S ch A vs).upd hw1 hs (fun a => ⟨rfl, rfl⟩) (fun k hk => by rw [rv_wI, rv_wR, if_neg (fun z => hk z.2)]) (by rw [iv_wI, if_neg (by omega), iv_wR]) ⟨by rw [iv_wI, if_neg (by omega), iv_wR]; exact v7.1, v7.2⟩ ⟨by rw [iv_wI, if_neg (by omega), iv_wR]; exact v8.1, v8.2⟩ (Or.inr ?_) ⟨by rw [iv_wI, if_pos ⟨rfl, rfl⟩], Or.inr rfl⟩ (fun _ _ _ => by rw [e6]; exact m1) v12
      rw [e6]
      exact ⟨⟨ee.1, by rw [kd_wI, kd_wR]; exact en1.1.2⟩, hE, by rw [ee.2, en1.2.1, m2]⟩
    obtain ⟨q1, q2⟩ := g2.vset hw1 hj hT1 hV1 (v := wI_ (wR_ u46 A 6 e) A 7 1) rfl (fun a => ⟨rfl, rfl⟩) (by rw [hr3]; exact hs) (by rw [hr3]; exact hv')
    rw [m2] at q1
    exact ⟨by rw [g1']; exact m3, MR.tr ⟨by omega, fun a q1 q2 => g5 a (by omega) (by omega)⟩ q2, q1⟩
  refine z_aload_n ho dX1_next_0 rfl ?_
  refine z_iload_n ho dX1_next_1 rfl ?_
  refine kX1_91 ho hN (c_of_ _ _ h.2.1 h0 (by omega)) dX1_next_2 kx (by omega) (Nat.le_of_ble_eq_true rfl) (by omega) (by omega) (fun x2 u2 h2 => ?_)
  obtain ⟨rfl, rfl⟩ := h2
  refine z_astore_n ho dX1_next_5 (Nat.le_of_ble_eq_true rfl) rfl ?_
  refine z_aload_n ho dX1_next_6 rfl ?_
  refine kX1_188 ho hN (c_cur _ _ hTr hv (h.1.2.1 vs.1 v2).2) dX1_next_7 hka (by omega) (Nat.le_of_ble_eq_true rfl) (by omega) (by omega) (fun x7 u7 h7 => ?_)
  obtain ⟨rfl, hq⟩ := h7
  refine z_if_ne (tgt := 23) ho dX1_next_10 (by decide) (by rcases hq with ⟨z, -⟩ | ⟨z, -⟩ <;> rw [z] <;> unfold rng <;> omega) (fun c10 => ?_) (fun c10 => ?_)
  · 
    refine z_aload_n ho dX1_next_23 rfl ?_
    refine z_aload_n ho dX1_next_24 rfl ?_
    refine gX1_194 ho dX1_next_25 hka ?_
    refine z_aload_n ho dX1_next_28 rfl ?_
    refine gX1_194 ho dX1_next_29 hka ?_
    refine z_ifnull (tgt := 39) ho dX1_next_32 (by decide) (fun c32 => ?_) (fun c32 => ?_)
    · 
      refine z_iconst ho dX1_next_39 ?_
      have ho' : vs.2.2.2.2.2.1 = none := by
        rcases v9 with z | ⟨z, -⟩
        · exact z.2
        · exact absurd c32 (z.ne0 hw)
      rw [ho'] at hf
      rw [c32]
      refine kX1_178 ho hN (c_afterP _ _ hw hTr hv hSl (Or.inl ⟨rfl, rfl⟩) (Or.inl rfl) hf) dX1_next_40 hka (by omega) (Nat.le_of_ble_eq_true rfl) (by omega) (by omega) (fun x40 u40 h40 => ?_)
      obtain ⟨rfl, hr⟩ := h40
      exact fin _ hr
    · obtain ⟨en, hE, ho'⟩ := v9.resolve_left (fun z => c32 z.1)
      rw [ho'] at hf
      refine z_iconst ho dX1_next_35 ?_
      refine z_goto (tgt := 40) ho dX1_next_36 (by decide) ?_
      refine kX1_178 ho hN (c_afterP _ _ hw hTr hv hSl (Or.inr ⟨en.1, rfl⟩) (Or.inr rfl) hf) dX1_next_40 hka (by omega) (Nat.le_of_ble_eq_true rfl) (by omega) (by omega) (fun x40 u40 h40 => ?_)
      obtain ⟨rfl, hr⟩ := h40
      exact fin _ hr
  · rcases hq with ⟨z, -⟩ | ⟨-, z⟩
    · omega
    · exact absurd hcu z
theorem t_hnext3 (l : Launch) (hst : l.stackTraces = false) (u : Mem) {x : Nat} {i : Int} {tp fd : List Int} {M : Nat → List KV} {ch : Nat → Int} {VL : List VS} {Ks : List (List Int)} {T : List Int} {Os : List (List Int)} {vs : VS} (h : HS u x tp fd M ch VL Ks T Os) (h0 : 0 ≤ i) (hj : VL[i.toNat]? = some vs) (hcu : Cur vs ch) (hf : Nr vs.2.2.1 vs.2.1 vs.2.2.2.2.2.1 (stO vs.2.2.2.2.2.1) (M vs.1) none) :
    Th_ l yX1_next cX1_next 5 (some .int) 1104 2 12 [aR x, aI i] u (qTh 22 x u tp fd M ch VL Ks T Os) := by
  have kx := h.2.1.1
  have g1 := h.1.1
  have hjl := (List.getElem?_eq_some_iff.mp hj).1
  have ei : (i.toNat : Int) = i := Int.toNat_of_nonneg h0
  obtain ⟨S, hTr, hV, hv, hSl⟩ := h.view hj
  rw [ei] at hv
  have v2 := hv.2.1
  have hka : kd_ u (rv_ u (x + 3) i) = 11 := by obtain ⟨-, -, ⟨lo, hi, ⟨q1, -⟩, -⟩, -⟩ := hv; exact q1
  have v9 := hv.2.2.2.2.2.2.2.2.1
  refine Th_of (by decide) (Nat.le_of_ble_eq_true rfl) (fun X ho hT hX hN => ?_)
  subst hX
  show Z X 0 [some (aR x), some (aI i), none, none, none] [] u 0 0
  refine z_wf (fun hw => ?_)
  have fin : ∀ (e : Nat), isP u (S vs.1) e none → Z X 43 [some (aR x), some (aI i), some (aR (rv_ u (x + 3) i)), none, none] [aR e] u 1 6 := by
    intro e hr
    have hr0 : e = 0 := by
      rcases hr with z | ⟨p', hp', -⟩
      · exact z.2
      · cases hp'
    rw [hr0]
    refine z_astore_n ho dX1_next_43 (Nat.le_of_ble_eq_true rfl) rfl ?_
    refine z_aload_n ho dX1_next_44 rfl ?_
    refine z_aload_n ho dX1_next_45 rfl ?_
    refine tX1_174 ho hT hN (t_tell _ hst _) dX1_next_46 kx (by omega) (Nat.le_of_ble_eq_true rfl) (by omega) (by omega) (fun x46 u46 h46 => ?_)
    exact qTh_ex h hw h46
  refine z_aload_n ho dX1_next_0 rfl ?_
  refine z_iload_n ho dX1_next_1 rfl ?_
  refine kX1_91 ho hN (c_of_ _ _ h.2.1 h0 (by omega)) dX1_next_2 kx (by omega) (Nat.le_of_ble_eq_true rfl) (by omega) (by omega) (fun x2 u2 h2 => ?_)
  obtain ⟨rfl, rfl⟩ := h2
  refine z_astore_n ho dX1_next_5 (Nat.le_of_ble_eq_true rfl) rfl ?_
  refine z_aload_n ho dX1_next_6 rfl ?_
  refine kX1_188 ho hN (c_cur _ _ hTr hv (h.1.2.1 vs.1 v2).2) dX1_next_7 hka (by omega) (Nat.le_of_ble_eq_true rfl) (by omega) (by omega) (fun x7 u7 h7 => ?_)
  obtain ⟨rfl, hq⟩ := h7
  refine z_if_ne (tgt := 23) ho dX1_next_10 (by decide) (by rcases hq with ⟨z, -⟩ | ⟨z, -⟩ <;> rw [z] <;> unfold rng <;> omega) (fun c10 => ?_) (fun c10 => ?_)
  · 
    refine z_aload_n ho dX1_next_23 rfl ?_
    refine z_aload_n ho dX1_next_24 rfl ?_
    refine gX1_194 ho dX1_next_25 hka ?_
    refine z_aload_n ho dX1_next_28 rfl ?_
    refine gX1_194 ho dX1_next_29 hka ?_
    refine z_ifnull (tgt := 39) ho dX1_next_32 (by decide) (fun c32 => ?_) (fun c32 => ?_)
    · 
      refine z_iconst ho dX1_next_39 ?_
      have ho' : vs.2.2.2.2.2.1 = none := by
        rcases v9 with z | ⟨z, -⟩
        · exact z.2
        · exact absurd c32 (z.ne0 hw)
      rw [ho'] at hf
      rw [c32]
      refine kX1_178 ho hN (c_afterP _ _ hw hTr hv hSl (Or.inl ⟨rfl, rfl⟩) (Or.inl rfl) hf) dX1_next_40 hka (by omega) (Nat.le_of_ble_eq_true rfl) (by omega) (by omega) (fun x40 u40 h40 => ?_)
      obtain ⟨rfl, hr⟩ := h40
      exact fin _ hr
    · obtain ⟨en, hE, ho'⟩ := v9.resolve_left (fun z => c32 z.1)
      rw [ho'] at hf
      refine z_iconst ho dX1_next_35 ?_
      refine z_goto (tgt := 40) ho dX1_next_36 (by decide) ?_
      refine kX1_178 ho hN (c_afterP _ _ hw hTr hv hSl (Or.inr ⟨en.1, rfl⟩) (Or.inr rfl) hf) dX1_next_40 hka (by omega) (Nat.le_of_ble_eq_true rfl) (by omega) (by omega) (fun x40 u40 h40 => ?_)
      obtain ⟨rfl, hr⟩ := h40
      exact fin _ hr
  · rcases hq with ⟨z, -⟩ | ⟨-, z⟩
    · omega
    · exact absurd hcu z
theorem t_hnext2 (l : Launch) (hst : l.stackTraces = false) (u : Mem) {x : Nat} {i : Int} {tp fd : List Int} {M : Nat → List KV} {ch : Nat → Int} {VL : List VS} {Ks : List (List Int)} {T : List Int} {Os : List (List Int)} {vs : VS} (h : HS u x tp fd M ch VL Ks T Os) (h0 : 0 ≤ i) (hj : VL[i.toNat]? = some vs) (hcu : ¬ Cur vs ch) :
    Th_ l yX1_next cX1_next 5 (some .int) 1104 2 12 [aR x, aI i] u (qTh 21 x u tp fd M ch VL Ks T Os) := by
  have kx := h.2.1.1
  have g1 := h.1.1
  have hjl := (List.getElem?_eq_some_iff.mp hj).1
  have ei : (i.toNat : Int) = i := Int.toNat_of_nonneg h0
  obtain ⟨S, hTr, hV, hv, hSl⟩ := h.view hj
  rw [ei] at hv
  have v2 := hv.2.1
  have hka : kd_ u (rv_ u (x + 3) i) = 11 := by obtain ⟨-, -, ⟨lo, hi, ⟨q1, -⟩, -⟩, -⟩ := hv; exact q1
  refine Th_of (by decide) (Nat.le_of_ble_eq_true rfl) (fun X ho hT hX hN => ?_)
  subst hX
  show Z X 0 [some (aR x), some (aI i), none, none, none] [] u 0 0
  refine z_wf (fun hw => ?_)
  refine z_aload_n ho dX1_next_0 rfl ?_
  refine z_iload_n ho dX1_next_1 rfl ?_
  refine kX1_91 ho hN (c_of_ _ _ h.2.1 h0 (by omega)) dX1_next_2 kx (by omega) (Nat.le_of_ble_eq_true rfl) (by omega) (by omega) (fun x2 u2 h2 => ?_)
  obtain ⟨rfl, rfl⟩ := h2
  refine z_astore_n ho dX1_next_5 (Nat.le_of_ble_eq_true rfl) rfl ?_
  refine z_aload_n ho dX1_next_6 rfl ?_
  refine kX1_188 ho hN (c_cur _ _ hTr hv (h.1.2.1 vs.1 v2).2) dX1_next_7 hka (by omega) (Nat.le_of_ble_eq_true rfl) (by omega) (by omega) (fun x7 u7 h7 => ?_)
  obtain ⟨rfl, hq⟩ := h7
  refine z_if_ne (tgt := 23) ho dX1_next_10 (by decide) (by rcases hq with ⟨z, -⟩ | ⟨z, -⟩ <;> rw [z] <;> unfold rng <;> omega) (fun c10 => ?_) (fun c10 => ?_)
  · rcases hq with ⟨-, z⟩ | ⟨z, -⟩
    · exact absurd z hcu
    · exact absurd z c10
  · 
    refine tx_21 ho hT hst hN (sidx := 192) (tx := "changed") (by simp [nestS_]) dX1_next_13 dX1_next_16 dX1_next_17 dX1_next_19 dX1_next_22 (by omega) (by omega) (Nat.le_of_ble_eq_true rfl) (Nat.le_of_ble_eq_true rfl) ?_
    exact qTh_ex h hw ⟨rfl, rfl⟩
theorem t_hnext1 (l : Launch) (hst : l.stackTraces = false) (u : Mem) {x : Nat} {i : Int} {tp fd : List Int} {M : Nat → List KV} {ch : Nat → Int} {VL : List VS} {Ks : List (List Int)} {T : List Int} {Os : List (List Int)} (h : HS u x tp fd M ch VL Ks T Os) (ri : rng i) (hn : ¬ (0 ≤ i ∧ i < VL.length)) : Th_ l yX1_next cX1_next 5 (some .int) 1104 2 12 [aR x, aI i] u (qTh 19 x u tp fd M ch VL Ks T Os) := by
  have kx := h.2.1.1
  refine Th_of (by decide) (Nat.le_of_ble_eq_true rfl) (fun X ho hT hX hN => ?_)
  subst hX
  show Z X 0 [some (aR x), some (aI i), none, none, none] [] u 0 0
  refine z_wf (fun hw => ?_)
  refine z_aload_n ho dX1_next_0 rfl ?_
  refine z_iload_n ho dX1_next_1 rfl ?_
  refine tX1_91 ho hT hN (t_of_ _ hst _ h.2.1 ri hn) dX1_next_2 kx (Nat.le_of_ble_eq_true rfl) (Nat.le_of_ble_eq_true rfl) (Nat.le_of_ble_eq_true rfl) (Nat.le_of_ble_eq_true rfl) (fun x2 u2 h2 => ?_)
  exact qTh_ex h hw h2
theorem c_hdrop (l : Launch) (u : Mem) {x : Nat} {i : Int} {tp fd : List Int} {M : Nat → List KV} {ch : Nat → Int} {VL : List VS} {Ks : List (List Int)} {T : List Int} {Os : List (List Int)} {vs : VS} (h : HS u x tp fd M ch VL Ks T Os) (h0 : 0 ≤ i) (hj : VL[i.toNat]? = some vs) (hcu : Cur vs ch) (hcd : vs.2.2.2.2.2.2 = 1) (hc : ∀ k, k < 3 → ch k < 1000000) :
    Mt_ l yX1_drop cX1_drop 3 (some .int) 1104 18 464 [aR x, aI i] u (qI fun r v => MR x u v ∧ ∃ A B t, vs.2.2.2.2.2.1 = some t ∧ M vs.1 = A ++ (t, r) :: B ∧ (∀ q ∈ A ++ B, q.1 ≠ t) ∧ HS v x tp fd (fun k => if k = vs.1 then swp A B else M k) (fun k => if k = vs.1 then ch vs.1 + 1 else ch k) (VL.set i.toNat (vs.1, vs.2.1, vs.2.2.1, vs.2.2.2.1, ch vs.1 + 1, vs.2.2.2.2.2.1, 0)) Ks T Os) := by
  have kx := h.2.1.1
  have g1 := h.1.1
  have hjl := (List.getElem?_eq_some_iff.mp hj).1
  have ei : (i.toNat : Int) = i := Int.toNat_of_nonneg h0
  obtain ⟨S, hTr, hV, hv, hSl⟩ := h.view hj
  rw [ei] at hv
  have v2 := hv.2.1
  obtain ⟨lo, hi, hVw, hR⟩ := hv.2.2.1
  have hka : kd_ u (rv_ u (x + 3) i) = 11 := hVw.1
  have v9 := hv.2.2.2.2.2.2.2.2.1
  have hcv := hv.2.2.2.2.2.2.2.2.2.1
  have hmem := hv.2.2.2.2.2.2.2.2.2.2.1 hcd hcu.1 hcu.2
  obtain ⟨y1, y2, y3, y4, y5, y6⟩ := hTr.2.1 vs.1 v2
  have en := y1.en _ hmem
  have hE := y6 _ hmem
  refine Mt_of (by decide) (Nat.le_of_ble_eq_true rfl) (fun X ho hX hN hI => ?_)
  subst hX
  show Z X 0 [some (aR x), some (aI i), none] [] u 0 0
  refine z_wf (fun hw => ?_)
  have ho' : vs.2.2.2.2.2.1 = some (tx u (rv_ u (rv_ u (x + 3) i) 6)) := (v9.resolve_left (fun z => en.ne0 hw z.1)).2.2
  refine z_aload_n ho dX1_drop_0 rfl ?_
  refine z_iload_n ho dX1_drop_1 rfl ?_
  refine kX1_91 ho hN (c_of_ _ _ h.2.1 h0 (by omega)) dX1_drop_2 kx (by omega) (Nat.le_of_ble_eq_true rfl) (by omega) (by omega) (fun x2 u2 h2 => ?_)
  obtain ⟨rfl, rfl⟩ := h2
  refine z_astore_n ho dX1_drop_5 (Nat.le_of_ble_eq_true rfl) rfl ?_
  refine z_aload_n ho dX1_drop_6 rfl ?_
  refine kX1_188 ho hN (c_cur _ _ hTr hv (h.1.2.1 vs.1 v2).2) dX1_drop_7 hka (by omega) (Nat.le_of_ble_eq_true rfl) (by omega) (by omega) (fun x7 u7 h7 => ?_)
  obtain ⟨rfl, hq⟩ := h7
  refine z_if_eq (tgt := 20) ho dX1_drop_10 (by decide) (by rcases hq with ⟨z, -⟩ | ⟨z, -⟩ <;> rw [z] <;> unfold rng <;> omega) (fun c10 => ?_) (fun c10 => ?_)
  · rcases hq with ⟨z, -⟩ | ⟨-, z⟩
    · omega
    · exact absurd hcu z
  · 
    refine z_aload_n ho dX1_drop_13 rfl ?_
    refine gX1_198 ho dX1_drop_14 hka ?_
    rw [hcv.1, hcd]
    refine z_if_ne (tgt := 30) ho dX1_drop_17 (by decide) (by unfold rng; omega) (fun c17 => ?_) (fun c17 => ?_)
    · 
      refine z_aload_n ho dX1_drop_30 rfl ?_
      refine gX1_124 ho dX1_drop_31 hka ?_
      rw [hVw.2.1]
      refine z_aload_n ho dX1_drop_34 rfl ?_
      refine gX1_194 ho dX1_drop_35 hka ?_
      refine kX1_158 ho hN (c_remove _ _ y1 (hG_lt (by omega)) (by omega) hmem) dX1_drop_38 (by unfold isT_; exact y1.k3) (by omega) (Nat.le_of_ble_eq_true rfl) (by omega) (by omega) (fun u38 h38 => ?_)
      obtain ⟨p1, p2, p3, p4⟩ := h38
      refine z_wf (fun hw1 => ?_)
      obtain ⟨A, B, S', q1, q2, q3, q4, q5, q6, q7⟩ := h.rem hw v2 hTr hV hmem p1 p2 p3 p4 (hc vs.1 v2)
      have hkt := tA_kd hTr v2
      have h3t := tA_3 x vs.1
      have sA : Sm u u38 (rv_ u (x + 3) i) := (p2.2 _ (hw.1 _ (by rw [hka]; decide)).1).2.2 (fun z => by
        rcases z with z | z
        · unfold Sc K5 at z; omega
        · rw [z] at hka; omega)
      have k3 := h.2.1.2.2.2.2.2.2.2.2.2.2.1
      have s3 : Sm u u38 (x + 3) := (p2.2 _ (hw.1 _ (by rw [k3]; decide)).1).2.2 (fun z => by
        unfold QT Sc K5 at z; omega)
      have hka1 : kd_ u38 (rv_ u (x + 3) i) = 11 := by rw [sA.1]; exact hka
      have e1 : iv_ u38 (tA x vs.1) 1 = ch vs.1 + 1 := by rw [p4, y3]
      have ktA : kd_ u38 (tA x vs.1) = kd_ u (tA x vs.1) := (q7.2.1 _ (hw.1 _ (by omega)).1).1
      have en1 := q7.en hw en hE
      refine z_aload_n ho dX1_drop_41 rfl ?_
      refine z_aload_n ho dX1_drop_42 rfl ?_
      refine gX1_124 ho dX1_drop_43 hka1 ?_
      rw [sA.2.2.2, hVw.2.1]
      refine gX1_203 ho dX1_drop_46 (by unfold isT_; rw [ktA]; exact y1.k3) ?_
      rw [e1]
      refine pX1_206 ho dX1_drop_49 hka1  ?_
      refine z_aload_n ho dX1_drop_52 rfl ?_
      refine z_iconst ho dX1_drop_53 ?_
      refine pX1_198 ho dX1_drop_54 hka1 (by omega) ?_
      refine z_aload_n ho dX1_drop_57 rfl ?_
      refine gX1_194 ho dX1_drop_58 hka1 ?_
      rw [rv_wI, rv_wI, sA.2.2.2]
      refine gX1_134 ho dX1_drop_61 (by rw [kd_wI, kd_wI]; exact en1.1.2) ?_
      refine r_I ho dX1_drop_64 (Nat.le_of_ble_eq_true rfl) (Nat.le_of_ble_eq_true rfl) ?_
      have hr3 : rv_ u38 (x + 3) (i.toNat : Int) = rv_ u (x + 3) i := by rw [s3.2.2.2, ei]
      have hv1 := q6.1 i.toNat vs hj
      rw [hr3] at hv1
      generalize hA : rv_ u (x + 3) i = A0 at *
      have hs : ∀ a, a ≠ A0 → Sm u38 (wI_ (wI_ u38 A0 5 (ch vs.1 + 1)) A0 7 0) a := fun a ha => (Sm.wI ha).tr (Sm.wI ha)
      have hne : rv_ u A0 6 ≠ A0 := fun z => by have := en1.1.2; rw [z] at this; omega
      have hrc := (h.1.2.1 vs.1 v2).2
      have hcc := hc vs.1 v2
      have hv' : HV1 (wI_ (wI_ u38 A0 5 (ch vs.1 + 1)) A0 7 0) x S' (fun k => if k = vs.1 then ch vs.1 + 1 else ch k) A0 (vs.1, vs.2.1, vs.2.2.1, vs.2.2.2.1, ch vs.1 + 1, vs.2.2.2.2.2.1, 0) := by
        have hv1' := hv1
        obtain ⟨-, -, -, -, -, -, v7, v8, -, -, -, v12⟩ := hv1
        have hne1 : rv_ u A0 6 + 1 ≠ A0 := fun z => by have := en1.1.1.2.2.1; rw [z] at this; omega
        have ee := en1.1.1.same (hs _ hne) (hs _ hne1)
        have e6 : rv_ (wI_ (wI_ u38 A0 5 (ch vs.1 + 1)) A0 7 0) A0 6 = rv_ u A0 6 := by rw [rv_wI, rv_wI, sA.2.2.2]
        refine hv1'.upd hw1 hs (fun a => ⟨rfl, rfl⟩) (fun k hk => rfl) (by rw [iv_wI, if_neg (by omega), iv_wI, if_neg (by omega)]) ⟨by rw [iv_wI, if_neg (by omega), iv_wI, if_neg (by omega)]; exact v7.1, v7.2⟩ ⟨by rw [iv_wI, if_neg (by omega), iv_wI, if_pos ⟨rfl, rfl⟩], by unfold rng at hrc ⊢; omega⟩ (Or.inr ?_) ⟨by rw [iv_wI, if_pos ⟨rfl, rfl⟩], Or.inl rfl⟩ (fun z => absurd z (by decide)) (fun _ => by simp)
        rw [e6]
        exact ⟨⟨ee.1, by rw [kd_wI, kd_wI]; exact en1.1.2⟩, hE, by rw [ee.2, en1.2.1]; exact ho'⟩
      obtain ⟨r1, r2⟩ := q3.vset hw1 hj q5 q6 (v := wI_ (wI_ u38 A0 5 (ch vs.1 + 1)) A0 7 0) rfl (fun a => ⟨rfl, rfl⟩) (by rw [hr3]; exact hs) (by rw [hr3]; exact hv')
      have ev : iv_ (wI_ (wI_ u38 A0 5 (ch vs.1 + 1)) A0 7 0) (rv_ u A0 6) 2 = iv_ u (rv_ u A0 6) 2 := by rw [iv_wI, if_neg (by omega), iv_wI, if_neg (by omega), en1.2.2]
      exact ⟨q4.tr r2, A, B, _, ho', by rw [ev]; exact q1, q2, r1⟩
    · exact absurd c17 (by decide)
theorem t_hdrop2 (l : Launch) (hst : l.stackTraces = false) (u : Mem) {x : Nat} {i : Int} {tp fd : List Int} {M : Nat → List KV} {ch : Nat → Int} {VL : List VS} {Ks : List (List Int)} {T : List Int} {Os : List (List Int)} {vs : VS} (h : HS u x tp fd M ch VL Ks T Os) (h0 : 0 ≤ i) (hj : VL[i.toNat]? = some vs) (hcu : ¬ (Cur vs ch ∧ vs.2.2.2.2.2.2 = 1)) :
    Th_ l yX1_drop cX1_drop 3 (some .int) 1104 18 464 [aR x, aI i] u (qTh 21 x u tp fd M ch VL Ks T Os) := by
  have kx := h.2.1.1
  have g1 := h.1.1
  have hjl := (List.getElem?_eq_some_iff.mp hj).1
  have ei : (i.toNat : Int) = i := Int.toNat_of_nonneg h0
  obtain ⟨S, hTr, hV, hv, hSl⟩ := h.view hj
  rw [ei] at hv
  have v2 := hv.2.1
  have hka : kd_ u (rv_ u (x + 3) i) = 11 := by obtain ⟨-, -, ⟨lo, hi, ⟨q1, -⟩, -⟩, -⟩ := hv; exact q1
  have hcv := hv.2.2.2.2.2.2.2.2.2.1
  refine Th_of (by decide) (Nat.le_of_ble_eq_true rfl) (fun X ho hT hX hN => ?_)
  subst hX
  show Z X 0 [some (aR x), some (aI i), none] [] u 0 0
  refine z_wf (fun hw => ?_)
  have t20 : Z X 20 [some (aR x), some (aI i), some (aR (rv_ u (x + 3) i))] [] u 1 6 := by
    refine tx_21 ho hT hst hN (sidx := 201) (tx := "not to be dropped") (by simp [nestS_]) dX1_drop_20 dX1_drop_23 dX1_drop_24 dX1_drop_26 dX1_drop_29 (by omega) (by omega) (Nat.le_of_ble_eq_true rfl) (Nat.le_of_ble_eq_true rfl) ?_
    exact qTh_ex h hw ⟨rfl, rfl⟩
  refine z_aload_n ho dX1_drop_0 rfl ?_
  refine z_iload_n ho dX1_drop_1 rfl ?_
  refine kX1_91 ho hN (c_of_ _ _ h.2.1 h0 (by omega)) dX1_drop_2 kx (by omega) (Nat.le_of_ble_eq_true rfl) (by omega) (by omega) (fun x2 u2 h2 => ?_)
  obtain ⟨rfl, rfl⟩ := h2
  refine z_astore_n ho dX1_drop_5 (Nat.le_of_ble_eq_true rfl) rfl ?_
  refine z_aload_n ho dX1_drop_6 rfl ?_
  refine kX1_188 ho hN (c_cur _ _ hTr hv (h.1.2.1 vs.1 v2).2) dX1_drop_7 hka (by omega) (Nat.le_of_ble_eq_true rfl) (by omega) (by omega) (fun x7 u7 h7 => ?_)
  obtain ⟨rfl, hq⟩ := h7
  refine z_if_eq (tgt := 20) ho dX1_drop_10 (by decide) (by rcases hq with ⟨z, -⟩ | ⟨z, -⟩ <;> rw [z] <;> unfold rng <;> omega) (fun c10 => ?_) (fun c10 => ?_)
  · exact t20
  · 
    refine z_aload_n ho dX1_drop_13 rfl ?_
    refine gX1_198 ho dX1_drop_14 hka ?_
    rw [hcv.1]
    refine z_if_ne (tgt := 30) ho dX1_drop_17 (by decide) (by unfold rng; omega) (fun c17 => ?_) (fun c17 => ?_)
    · exfalso
      rcases hq with ⟨-, z⟩ | ⟨z, -⟩
      · exact hcu ⟨z, by omega⟩
      · exact c10 z
    · exact t20
theorem t_hdrop1 (l : Launch) (hst : l.stackTraces = false) (u : Mem) {x : Nat} {i : Int} {tp fd : List Int} {M : Nat → List KV} {ch : Nat → Int} {VL : List VS} {Ks : List (List Int)} {T : List Int} {Os : List (List Int)} (h : HS u x tp fd M ch VL Ks T Os) (ri : rng i) (hn : ¬ (0 ≤ i ∧ i < VL.length)) : Th_ l yX1_drop cX1_drop 3 (some .int) 1104 18 464 [aR x, aI i] u (qTh 19 x u tp fd M ch VL Ks T Os) := by
  have kx := h.2.1.1
  refine Th_of (by decide) (Nat.le_of_ble_eq_true rfl) (fun X ho hT hX hN => ?_)
  subst hX
  show Z X 0 [some (aR x), some (aI i), none] [] u 0 0
  refine z_wf (fun hw => ?_)
  refine z_aload_n ho dX1_drop_0 rfl ?_
  refine z_iload_n ho dX1_drop_1 rfl ?_
  refine tX1_91 ho hT hN (t_of_ _ hst _ h.2.1 ri hn) dX1_drop_2 kx (Nat.le_of_ble_eq_true rfl) (Nat.le_of_ble_eq_true rfl) (Nat.le_of_ble_eq_true rfl) (Nat.le_of_ble_eq_true rfl) (fun x2 u2 h2 => ?_)
  exact qTh_ex h hw h2
