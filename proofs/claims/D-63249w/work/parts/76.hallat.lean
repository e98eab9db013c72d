set_option maxRecDepth 100000
/-! ===== KeyHall.at ===== -/
/-- n steps on from one -/
def AtR (vs : VS) (L : List KV) : Nat → Option KV → Option KV → Prop
  | 0, a, q => a = q
  | _ + 1, none, q => q = none
  | n + 1, some p, q => ∃ q1, Nr vs.2.2.1 vs.2.1 (some p.1) 1 L q1 ∧ AtR vs L n q1 q
def AtS (vs : VS) (k : Int) (L : List KV) (q : Option KV) : Prop := (k < 0 ∧ q = none) ∨ (0 ≤ k ∧ ∃ q0, Nr vs.2.2.1 vs.2.1 none 0 L q0 ∧ AtR vs L k.toNat q0 q)
theorem AtR.ex {vs : VS} (hv : vs.2.2.1 = 0 ∨ vs.2.2.1 = 1) (L : List KV) : ∀ (n : Nat) (a : Option KV), ∃ q, AtR vs L n a q := by
  intro n
  induction n with
  | zero => exact fun a => ⟨a, rfl⟩
  | succ n ih =>
    intro a
    cases a with
    | none => exact ⟨none, rfl⟩
    | some p =>
      obtain ⟨q1, h1⟩ := Nr.ex hv vs.2.1 (some p.1) 1 L
      obtain ⟨q, hq⟩ := ih q1
      exact ⟨q, q1, h1, hq⟩
theorem AtS.ex {vs : VS} (hv : vs.2.2.1 = 0 ∨ vs.2.2.1 = 1) (k : Int) (L : List KV) : ∃ q, AtS vs k L q := by
  by_cases h : k < 0
  · exact ⟨none, Or.inl ⟨h, rfl⟩⟩
  · obtain ⟨q0, h0⟩ := Nr.ex hv vs.2.1 none 0 L
    obtain ⟨q, hq⟩ := AtR.ex hv L k.toNat q0
    exact ⟨q, Or.inr ⟨by omega, q0, h0, hq⟩⟩
theorem c_hat (l : Launch) (u : Mem) {x : Nat} {i k : Int} {tp fd : List Int} {M : Nat → List KV} {ch : Nat → Int} {VL : List VS} {Ks : List (List Int)} {T : List Int} {Os : List (List Int)} {vs : VS} {p : KV} (h : HS u x tp fd M ch VL Ks T Os) (h0 : 0 ≤ i) (hj : VL[i.toNat]? = some vs) (rk : rng k) (hf : AtS vs k (M vs.1) (some p)) :
    Mt_ l yX1_at cX1_at 6 (some .int) 1104 2 12 [aR x, aI i, aI k] u (qI fun r v => r = p.2 ∧ HS v x tp p.1 M ch VL Ks T Os ∧ MR x u v) := by
  have kx := h.2.1.1
  have g1 := h.1.1
  have hjl := (List.getElem?_eq_some_iff.mp hj).1
  have ei : (i.toNat : Int) = i := Int.toNat_of_nonneg h0
  obtain ⟨S, hTr, hV, hv, hSl⟩ := h.view hj
  rw [ei] at hv
  have v2 := hv.2.1
  have hka : kd_ u (rv_ u (x + 3) i) = 11 := by obtain ⟨-, -, ⟨lo, hi, ⟨q1, -⟩, -⟩, -⟩ := hv; exact q1
  refine Mt_of (by decide) (Nat.le_of_ble_eq_true rfl) (fun X ho hX hN hI => ?_)
  subst hX
  show Z X 0 [some (aR x), some (aI i), some (aI k), none, none, none] [] u 0 0
  refine z_wf (fun hw => ?_)
  have fin : ∀ (e : Nat) (n : Int), isP u (S vs.1) e (some p) → Z X 51 [some (aR x), some (aI i), some (aI k), some (aR (rv_ u (x + 3) i)), some (aR e), some (aI n)] [] u 1 6 := by
    intro e n hr
    obtain ⟨p', hp', m1, m2, m3⟩ := hr.resolve_left (fun z => by cases z.1)
    cases hp'
    have en := (hTr.2.1 vs.1 v2).1.en _ m1
    have hE := (hTr.2.1 vs.1 v2).2.2.2.2.2 _ m1
    refine z_aload_n ho dX1_at_51 rfl ?_
    refine z_aload ho dX1_at_52 rfl ?_
    refine kX1_174 ho hN (c_tell_ _ _ h en hE) dX1_at_54 kx (by omega) (Nat.le_of_ble_eq_true rfl) (by omega) (by omega) (fun x54 u54 h54 => ?_)
    obtain ⟨g1', g2, g3, g4, g5⟩ := h54
    refine r_I ho dX1_at_57 (Nat.le_of_ble_eq_true rfl) (Nat.le_of_ble_eq_true rfl) ?_
    rw [m2] at g2
    exact ⟨by rw [g1']; exact m3, g2, ⟨by omega, fun a q1 q2 => g5 a (by omega) (by omega)⟩⟩
  have key : ∀ (d : Nat) (n : Int) (e : Nat) (q : Option KV), 0 ≤ n → n ≤ max k 0 → (max k 0 - n).toNat = d → isP u (S vs.1) e q → AtR vs (M vs.1) d q (some p) → Z X 25 [some (aR x), some (aI i), some (aI k), some (aR (rv_ u (x + 3) i)), some (aR e), some (aI n)] [] u 1 6 := by
    intro d
    induction d with
    | zero =>
      intro n e q n0 n1 hd hr hA
      cases hA
      unfold rng at rk
      refine z_iload ho dX1_at_25 rfl ?_
      refine z_iload_n ho dX1_at_27 rfl ?_
      refine z_icmp_ge (tgt := 51) ho dX1_at_28 (by decide) (by unfold rng; omega) (by unfold rng; omega) (fun c28 => ?_) (fun c28 => ?_)
      · exact fin e n hr
      · omega
    | succ d ih =>
      intro n e q n0 n1 hd hr hA
      unfold rng at rk
      refine z_iload ho dX1_at_25 rfl ?_
      refine z_iload_n ho dX1_at_27 rfl ?_
      refine z_icmp_ge (tgt := 51) ho dX1_at_28 (by decide) (by unfold rng; omega) (by unfold rng; omega) (fun c28 => ?_) (fun c28 => ?_)
      · omega
      · 
        refine z_aload ho dX1_at_31 rfl ?_
        refine z_ifnull (tgt := 51) ho dX1_at_33 (by decide) (fun c33 => ?_) (fun c33 => ?_)
        · refine fin e n ?_
          rcases hr with ⟨z1, z2⟩ | ⟨p', z1, z2, -⟩
          · rw [z1] at hA
            have hA : (some p) = none := hA
            rw [hA]
            exact Or.inl ⟨rfl, z2⟩
          · exact absurd c33 (((hTr.2.1 vs.1 v2).1.en _ z2).ne0 hw)
        · obtain ⟨p', z1, z2, z3, z4⟩ := hr.resolve_left (fun z => c33 z.2)
          rw [z1] at hA
          obtain ⟨q1, hN1, hA1⟩ := hA
          have en := (hTr.2.1 vs.1 v2).1.en _ z2
          refine z_aload_n ho dX1_at_36 rfl ?_
          refine z_aload ho dX1_at_37 rfl ?_
          refine z_iconst ho dX1_at_39 ?_
          refine kX1_178 ho hN (c_afterP _ _ hw hTr hv hSl (Or.inr ⟨en.1, by rw [z3]⟩) (Or.inr rfl) hN1) dX1_at_40 hka (by omega) (Nat.le_of_ble_eq_true rfl) (by omega) (by omega) (fun x40 u40 h40 => ?_)
          obtain ⟨rfl, hr1⟩ := h40
          refine z_astore ho dX1_at_43 (Nat.le_of_ble_eq_true rfl) rfl ?_
          refine z_iinc ho dX1_at_45 rfl rfl ?_
          refine z_goto (tgt := 25) ho dX1_at_48 (by decide) ?_
          exact ih (n + 1) _ q1 (by omega) (by omega) (by omega) hr1 hA1
  refine z_aload_n ho dX1_at_0 rfl ?_
  refine z_iload_n ho dX1_at_1 rfl ?_
  refine kX1_91 ho hN (c_of_ _ _ h.2.1 h0 (by omega)) dX1_at_2 kx (by omega) (Nat.le_of_ble_eq_true rfl) (by omega) (by omega) (fun x2 u2 h2 => ?_)
  obtain ⟨rfl, rfl⟩ := h2
  refine z_astore_n ho dX1_at_5 (Nat.le_of_ble_eq_true rfl) rfl ?_
  refine z_iload_n ho dX1_at_6 rfl ?_
  refine z_if_ge (tgt := 14) ho dX1_at_7 (by decide) rk (fun c7 => ?_) (fun c7 => ?_)
  · rcases hf with ⟨z, -⟩ | ⟨z, q0, hN0, hA⟩
    · omega
    refine z_aload_n ho dX1_at_14 rfl ?_
    refine z_null ho dX1_at_15 ?_
    refine z_iconst ho dX1_at_16 ?_
    refine kX1_178 ho hN (c_afterP _ _ hw hTr hv hSl (Or.inl ⟨rfl, rfl⟩) (Or.inl rfl) hN0) dX1_at_17 hka (by omega) (Nat.le_of_ble_eq_true rfl) (by omega) (by omega) (fun x17 u17 h17 => ?_)
    obtain ⟨rfl, hr⟩ := h17
    refine z_astore ho dX1_at_20 (Nat.le_of_ble_eq_true rfl) rfl ?_
    refine z_iconst ho dX1_at_22 ?_
    refine z_istore ho dX1_at_23 (Nat.le_of_ble_eq_true rfl) rfl ?_
    exact key k.toNat 0 _ q0 (by omega) (by omega) (by omega) hr hA
  · 
    refine z_null ho dX1_at_10 ?_
    refine z_goto (tgt := 20) ho dX1_at_11 (by decide) ?_
    refine z_astore ho dX1_at_20 (Nat.le_of_ble_eq_true rfl) rfl ?_
    refine z_iconst ho dX1_at_22 ?_
    refine z_istore ho dX1_at_23 (Nat.le_of_ble_eq_true rfl) rfl ?_
    rcases hf with ⟨z, hq⟩ | ⟨z, -⟩
    · cases hq
    · omega
theorem t_hat2 (l : Launch) (hst : l.stackTraces = false) (u : Mem) {x : Nat} {i k : Int} {tp fd : List Int} {M : Nat → List KV} {ch : Nat → Int} {VL : List VS} {Ks : List (List Int)} {T : List Int} {Os : List (List Int)} {vs : VS} (h : HS u x tp fd M ch VL Ks T Os) (h0 : 0 ≤ i) (hj : VL[i.toNat]? = some vs) (rk : rng k) (hf : AtS vs k (M vs.1) none) :
    Th_ l yX1_at cX1_at 6 (some .int) 1104 2 12 [aR x, aI i, aI k] u (qTh 22 x u tp fd M ch VL Ks T Os) := by
  have kx := h.2.1.1
  have g1 := h.1.1
  have hjl := (List.getElem?_eq_some_iff.mp hj).1
  have ei : (i.toNat : Int) = i := Int.toNat_of_nonneg h0
  obtain ⟨S, hTr, hV, hv, hSl⟩ := h.view hj
  rw [ei] at hv
  have v2 := hv.2.1
  have hka : kd_ u (rv_ u (x + 3) i) = 11 := by obtain ⟨-, -, ⟨lo, hi, ⟨q1, -⟩, -⟩, -⟩ := hv; exact q1
  refine Th_of (by decide) (Nat.le_of_ble_eq_true rfl) (fun X ho hT hX hN => ?_)
  subst hX
  show Z X 0 [some (aR x), some (aI i), some (aI k), none, none, none] [] u 0 0
  refine z_wf (fun hw => ?_)
  have fin : ∀ (e : Nat) (n : Int), isP u (S vs.1) e none → Z X 51 [some (aR x), some (aI i), some (aI k), some (aR (rv_ u (x + 3) i)), some (aR e), some (aI n)] [] u 1 6 := by
    intro e n hr
    have hr0 : e = 0 := by
      rcases hr with z | ⟨p', hp', -⟩
      · exact z.2
      · cases hp'
    rw [hr0]
    refine z_aload_n ho dX1_at_51 rfl ?_
    refine z_aload ho dX1_at_52 rfl ?_
    refine tX1_174 ho hT hN (t_tell _ hst _) dX1_at_54 kx (by omega) (Nat.le_of_ble_eq_true rfl) (by omega) (by omega) (fun x54 u54 h54 => ?_)
    exact qTh_ex h hw h54
  have key : ∀ (d : Nat) (n : Int) (e : Nat) (q : Option KV), 0 ≤ n → n ≤ max k 0 → (max k 0 - n).toNat = d → isP u (S vs.1) e q → AtR vs (M vs.1) d q none → Z X 25 [some (aR x), some (aI i), some (aI k), some (aR (rv_ u (x + 3) i)), some (aR e), some (aI n)] [] u 1 6 := by
    intro d
    induction d with
    | zero =>
      intro n e q n0 n1 hd hr hA
      cases hA
      unfold rng at rk
      refine z_iload ho dX1_at_25 rfl ?_
      refine z_iload_n ho dX1_at_27 rfl ?_
      refine z_icmp_ge (tgt := 51) ho dX1_at_28 (by decide) (by unfold rng; omega) (by unfold rng; omega) (fun c28 => ?_) (fun c28 => ?_)
      · exact fin e n hr
      · omega
    | succ d ih =>
      intro n e q n0 n1 hd hr hA
      unfold rng at rk
      refine z_iload ho dX1_at_25 rfl ?_
      refine z_iload_n ho dX1_at_27 rfl ?_
      refine z_icmp_ge (tgt := 51) ho dX1_at_28 (by decide) (by unfold rng; omega) (by unfold rng; omega) (fun c28 => ?_) (fun c28 => ?_)
      · omega
      · 
        refine z_aload ho dX1_at_31 rfl ?_
        refine z_ifnull (tgt := 51) ho dX1_at_33 (by decide) (fun c33 => ?_) (fun c33 => ?_)
        · refine fin e n ?_
          rcases hr with ⟨z1, z2⟩ | ⟨p', z1, z2, -⟩
          · rw [z1] at hA
            have hA : none = none := hA
            rw [hA]
            exact Or.inl ⟨rfl, z2⟩
          · exact absurd c33 (((hTr.2.1 vs.1 v2).1.en _ z2).ne0 hw)
        · obtain ⟨p', z1, z2, z3, z4⟩ := hr.resolve_left (fun z => c33 z.2)
          rw [z1] at hA
          obtain ⟨q1, hN1, hA1⟩ := hA
          have en := (hTr.2.1 vs.1 v2).1.en _ z2
          refine z_aload_n ho dX1_at_36 rfl ?_
          refine z_aload ho dX1_at_37 rfl ?_
          refine z_iconst ho dX1_at_39 ?_
          refine kX1_178 ho hN (c_afterP _ _ hw hTr hv hSl (Or.inr ⟨en.1, by rw [z3]⟩) (Or.inr rfl) hN1) dX1_at_40 hka (by omega) (Nat.le_of_ble_eq_true rfl) (by omega) (by omega) (fun x40 u40 h40 => ?_)
          obtain ⟨rfl, hr1⟩ := h40
          refine z_astore ho dX1_at_43 (Nat.le_of_ble_eq_true rfl) rfl ?_
          refine z_iinc ho dX1_at_45 rfl rfl ?_
          refine z_goto (tgt := 25) ho dX1_at_48 (by decide) ?_
          exact ih (n + 1) _ q1 (by omega) (by omega) (by omega) hr1 hA1
  refine z_aload_n ho dX1_at_0 rfl ?_
  refine z_iload_n ho dX1_at_1 rfl ?_
  refine kX1_91 ho hN (c_of_ _ _ h.2.1 h0 (by omega)) dX1_at_2 kx (by omega) (Nat.le_of_ble_eq_true rfl) (by omega) (by omega) (fun x2 u2 h2 => ?_)
  obtain ⟨rfl, rfl⟩ := h2
  refine z_astore_n ho dX1_at_5 (Nat.le_of_ble_eq_true rfl) rfl ?_
  refine z_iload_n ho dX1_at_6 rfl ?_
  refine z_if_ge (tgt := 14) ho dX1_at_7 (by decide) rk (fun c7 => ?_) (fun c7 => ?_)
  · rcases hf with ⟨z, -⟩ | ⟨z, q0, hN0, hA⟩
    · omega
    refine z_aload_n ho dX1_at_14 rfl ?_
    refine z_null ho dX1_at_15 ?_
    refine z_iconst ho dX1_at_16 ?_
    refine kX1_178 ho hN (c_afterP _ _ hw hTr hv hSl (Or.inl ⟨rfl, rfl⟩) (Or.inl rfl) hN0) dX1_at_17 hka (by omega) (Nat.le_of_ble_eq_true rfl) (by omega) (by omega) (fun x17 u17 h17 => ?_)
    obtain ⟨rfl, hr⟩ := h17
    refine z_astore ho dX1_at_20 (Nat.le_of_ble_eq_true rfl) rfl ?_
    refine z_iconst ho dX1_at_22 ?_
    refine z_istore ho dX1_at_23 (Nat.le_of_ble_eq_true rfl) rfl ?_
    exact key k.toNat 0 _ q0 (by omega) (by omega) (by omega) hr hA
  · 
    refine z_null ho dX1_at_10 ?_
    refine z_goto (tgt := 20) ho dX1_at_11 (by decide) ?_
    refine z_astore ho dX1_at_20 (Nat.le_of_ble_eq_true rfl) rfl ?_
    refine z_iconst ho dX1_at_22 ?_
    refine z_istore ho dX1_at_23 (Nat.le_of_ble_eq_true rfl) rfl ?_
    rcases hf with ⟨z, hq⟩ | ⟨z, -⟩
    · exact key 0 0 _ none (by omega) (by omega) (by omega) (Or.inl ⟨rfl, rfl⟩) rfl
    · omega
theorem t_hat1 (l : Launch) (hst : l.stackTraces = false) (u : Mem) {x : Nat} {i k : Int} {tp fd : List Int} {M : Nat → List KV} {ch : Nat → Int} {VL : List VS} {Ks : List (List Int)} {T : List Int} {Os : List (List Int)} (h : HS u x tp fd M ch VL Ks T Os) (ri : rng i) (hn : ¬ (0 ≤ i ∧ i < VL.length)) : Th_ l yX1_at cX1_at 6 (some .int) 1104 2 12 [aR x, aI i, aI k] u (qTh 19 x u tp fd M ch VL Ks T Os) := by
  have kx := h.2.1.1
  refine Th_of (by decide) (Nat.le_of_ble_eq_true rfl) (fun X ho hT hX hN => ?_)
  subst hX
  show Z X 0 [some (aR x), some (aI i), some (aI k), none, none, none] [] u 0 0
  refine z_wf (fun hw => ?_)
  refine z_aload_n ho dX1_at_0 rfl ?_
  refine z_iload_n ho dX1_at_1 rfl ?_
  refine tX1_91 ho hT hN (t_of_ _ hst _ h.2.1 ri hn) dX1_at_2 kx (Nat.le_of_ble_eq_true rfl) (Nat.le_of_ble_eq_true rfl) (Nat.le_of_ble_eq_true rfl) (Nat.le_of_ble_eq_true rfl) (fun x2 u2 h2 => ?_)
  exact qTh_ex h hw h2
