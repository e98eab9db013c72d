set_option maxRecDepth 100000
/-! ===== Rope.of, even, join, part ===== -/
def cO (m : Nat) : Nat := max 2 (3 * m / 4 - 1)
def sO (m : Nat) : Nat := m + max 5 (10 * m / 4 - 5)
theorem c_of0 (l : Launch) (u : Mem) {a : Nat} {i : Int} (hi : rng i) : Mt_ l yX18_of cX18_of 4 (some (.object "KeyHall$Rope")) 0 0 0 [aR a, aI i, aI i] u (qR fun r v => u = v ∧ r = 0) := by
  refine Mt_of (by decide) (Nat.le_of_ble_eq_true rfl) (fun X ho hX hN hI => ?_)
  subst hX
  show Z X 0 [some (aR a), some (aI i), some (aI i), none] [] u 0 0
  refine z_iload_n ho dX18_of_0 rfl ?_
  refine z_iload_n ho dX18_of_1 rfl ?_
  refine z_icmp_ne (tgt := 7) ho dX18_of_2 (by decide) hi hi (fun c2 => ?_) (fun c2 => ?_)
  · exact absurd rfl c2
  · 
    refine z_null ho dX18_of_5 ?_
    refine r_R ho dX18_of_6 (Nat.le_of_ble_eq_true rfl) (Nat.le_of_ble_eq_true rfl) ?_
    exact ⟨rfl, rfl⟩
theorem c_of (l : Launch) {E : Nat} : ∀ (k : Nat) (u : Mem) (a : Nat) (i j : Int) (T : List Int), k ≤ 50 → T ≠ [] → T.length ≤ 8 * 2 ^ k → T.length ≤ 240 → kd_ u a = 101 → 0 ≤ i → j = i + T.length → j ≤ ln_ u a → ln_ u a ≤ 1000 → AL u a i T → (∀ c ∈ T, 0 ≤ c ∧ c < 65536) → E ≤ sz_ u →
    Mt_ l yX18_of cX18_of 4 (some (.object "KeyHall$Rope")) (k + 2) (cO T.length) (sO T.length) [aR a, aI i, aI j] u (qR fun r v => RT E v (k + 1) r T ∧ sz_ u ≤ sz_ v ∧ ∀ b, b < sz_ u → Sm u v b) := by
  intro k
  induction k with
  | zero =>
    intro u a i j T hk5 hT hk hl ka h0 hj hln hlk hA hch hE
    have hTp := List.length_pos_iff.mpr hT
    refine Mt_of (by decide) (Nat.le_of_ble_eq_true rfl) (fun X ho hX hN hI => ?_)
    subst hX
    show Z X 0 [some (aR a), some (aI i), some (aI j), none] [] u 0 0
    refine z_wf (fun hw => ?_)
    have hal := hw.1 a (by omega)
    have hlx := (hw.2.1 a (by omega)).2
    have hz := hw.2.2
    have hAl : Sm u (al_ u 18 0) a := Sm.al (by omega)
    have ec : cO T.length = max 2 (3 * T.length / 4 - 1) := rfl
    have es : sO T.length = T.length + max 5 (10 * T.length / 4 - 5) := rfl
    refine z_iload_n ho dX18_of_0 rfl ?_
    refine z_iload_n ho dX18_of_1 rfl ?_
    refine z_icmp_ne (tgt := 7) ho dX18_of_2 (by decide) (by unfold rng; omega) (by unfold rng; omega) (fun c2 => ?_) (fun c2 => ?_)
    · 
      refine z_iload_n ho dX18_of_7 rfl ?_
      refine z_iload_n ho dX18_of_8 rfl ?_
      refine z_isub ho dX18_of_9 ?_
      refine z_bipush ho dX18_of_10 rfl ?_
      refine z_icmp_gt (tgt := 28) ho dX18_of_12 (by decide) (by unfold rng; omega) (by unfold rng; omega) (fun c12 => ?_) (fun c12 => ?_)
      · omega
      · 
        refine nX18_8 ho dX18_of_15 (by omega) (by omega) ?_
        refine z_dup ho dX18_of_18 rfl ?_
        refine z_aload_n ho dX18_of_19 rfl ?_
        refine z_iload_n ho dX18_of_20 rfl ?_
        refine z_iload_n ho dX18_of_21 rfl ?_
        refine z_iload_n ho dX18_of_22 rfl ?_
        refine z_isub ho dX18_of_23 ?_
        refine kX18_37 ho hN (c_Rope_init (E := E) _ _ (T := T) (by rw [kd_al, if_pos rfl]) rfl (fun i => by rw [rv_al, if_pos rfl]) (by rw [hAl.1]; exact ka) h0 (by omega) hT hl (by rw [hAl.2.1]; omega) (fun q x hx => by rw [hAl.2.2.1]; exact hA q x hx) hch hE) dX18_of_24 (by omega) (by omega) (Nat.le_of_ble_eq_true rfl) (by omega) (by omega) (fun u24 h24 => ?_)
        obtain ⟨g1, g2, g3, g4⟩ := h24
        refine r_R ho dX18_of_27 (by omega) (by omega) ?_
        exact ⟨g1, by rw [g3]; omega, fun b hb => (Sm.al (by omega)).tr (g4 b hb)⟩
    · omega
  | succ k ih =>
    intro u a i j T hk5 hT hk hl ka h0 hj hln hlk hA hch hE
    have hTp := List.length_pos_iff.mpr hT
    refine Mt_of (by decide) (Nat.le_of_ble_eq_true rfl) (fun X ho hX hN hI => ?_)
    subst hX
    show Z X 0 [some (aR a), some (aI i), some (aI j), none] [] u 0 0
    refine z_wf (fun hw => ?_)
    have hal := hw.1 a (by omega)
    have hlx := (hw.2.1 a (by omega)).2
    have hz := hw.2.2
    have hAl : Sm u (al_ u 18 0) a := Sm.al (by omega)
    have ec : cO T.length = max 2 (3 * T.length / 4 - 1) := rfl
    have es : sO T.length = T.length + max 5 (10 * T.length / 4 - 5) := rfl
    refine z_iload_n ho dX18_of_0 rfl ?_
    refine z_iload_n ho dX18_of_1 rfl ?_
    refine z_icmp_ne (tgt := 7) ho dX18_of_2 (by decide) (by unfold rng; omega) (by unfold rng; omega) (fun c2 => ?_) (fun c2 => ?_)
    · 
      refine z_iload_n ho dX18_of_7 rfl ?_
      refine z_iload_n ho dX18_of_8 rfl ?_
      refine z_isub ho dX18_of_9 ?_
      refine z_bipush ho dX18_of_10 rfl ?_
      refine z_icmp_gt (tgt := 28) ho dX18_of_12 (by decide) (by unfold rng; omega) (by unfold rng; omega) (fun c12 => ?_) (fun c12 => ?_)
      · obtain ⟨A, B, hAB, hAl2⟩ : ∃ A B : List Int, T = A ++ B ∧ (A.length : Int) = (i + j) / 2 - i := ⟨T.take ((i + j) / 2 - i).toNat, T.drop ((i + j) / 2 - i).toNat, (List.take_append_drop _ _).symm, by rw [List.length_take]; omega⟩
        have hlen : T.length = A.length + B.length := by rw [hAB]; simp
        have hAn : A ≠ [] := fun z => by rw [z] at hAl2; simp at hAl2; omega
        have hBn : B ≠ [] := fun z => by rw [z] at hlen; simp at hlen; omega
        have e2 : 2 ^ (k + 1) = 2 * 2 ^ k := by rw [Nat.pow_succ]; omega
        have eA : cO A.length = max 2 (3 * A.length / 4 - 1) := rfl
        have eB : cO B.length = max 2 (3 * B.length / 4 - 1) := rfl
        have sA : sO A.length = A.length + max 5 (10 * A.length / 4 - 5) := rfl
        have sB : sO B.length = B.length + max 5 (10 * B.length / 4 - 5) := rfl
        have hAA : AL (al_ u 18 0) a i A := fun q x hx => by
          rw [hAl.2.2.1]
          refine hA q x ?_
          rw [hAB, List.getElem?_append_left (List.getElem?_eq_some_iff.mp hx).1]; exact hx
        refine z_iload_n ho dX18_of_28 rfl ?_
        refine z_iload_n ho dX18_of_29 rfl ?_
        refine z_iadd ho dX18_of_30 ?_
        refine z_iconst ho dX18_of_31 ?_
        refine z_idiv ho dX18_of_32 (by omega) (by omega) (by omega) (by omega) ?_
        refine z_istore_n ho dX18_of_33 (Nat.le_of_ble_eq_true rfl) rfl ?_
        refine nX18_8 ho dX18_of_34 (by omega) (by omega) ?_
        refine z_dup ho dX18_of_37 rfl ?_
        refine z_aload_n ho dX18_of_38 rfl ?_
        refine z_iload_n ho dX18_of_39 rfl ?_
        refine z_iload_n ho dX18_of_40 rfl ?_
        refine kX18_51 ho hN (ih _ a i ((i + j) / 2) A (by omega) hAn (by omega) (by omega) (by rw [hAl.1]; exact ka) h0 (by omega) (by rw [hAl.2.1]; omega) (by rw [hAl.2.1]; omega) hAA (fun c hc => hch c (by rw [hAB]; simp [hc])) (by rw [sz_al]; omega)) dX18_of_41 (by omega) (Nat.le_of_ble_eq_true rfl) (by omega) (by omega) (fun x41 u41 h41 => ?_)
        obtain ⟨g1, g2, g3⟩ := h41
        rw [sz_al] at g2 g3
        have hA2 : Sm u u41 a := hAl.tr (g3 a (by omega))
        have hBB : AL u41 a ((i + j) / 2) B := fun q x hx => by
          rw [hA2.2.2.1]
          have := hA (A.length + q) x (by rw [hAB, List.getElem?_append_right (by omega), show A.length + q - A.length = q by omega]; exact hx)
          rw [← this]
          congr 1
          omega
        refine z_wf (fun hw41 => ?_)
        refine z_aload_n ho dX18_of_44 rfl ?_
        refine z_iload_n ho dX18_of_45 rfl ?_
        refine z_iload_n ho dX18_of_46 rfl ?_
        refine kX18_51 ho hN (ih _ a ((i + j) / 2) j B (by omega) hBn (by omega) (by omega) (by rw [hA2.1]; exact ka) (by omega) (by omega) (by rw [hA2.2.1]; omega) (by rw [hA2.2.1]; omega) hBB (fun c hc => hch c (by rw [hAB]; simp [hc])) (by omega)) dX18_of_47 (by omega) (Nat.le_of_ble_eq_true rfl) (by omega) (by omega) (fun x47 u47 h47 => ?_)
        obtain ⟨f1, f2, f3⟩ := h47
        refine z_wf (fun hw47 => ?_)
        have S2 : ∀ b, b < sz_ u + 1 → Sm (al_ u 18 0) u47 b := fun b hb => (g3 b hb).tr (f3 b (by omega))
        have kr : kd_ u47 (sz_ u) = 18 := by rw [(S2 _ (by omega)).1, kd_al, if_pos rfl]
        have rr : ∀ i, rv_ u47 (sz_ u) i = 0 := fun i => by rw [(S2 _ (by omega)).2.2.2, rv_al, if_pos rfl]
        have gA : RT E u47 (k + 1) x41 A := RT.frame (fun c hc => f3 c (by have := hw41.1 c (by omega); omega)) (fun c hc _ => f3 c (by have := hw41.1 c (by omega); omega)) _ _ _ g1
        refine kX18_40 ho hN (c_Rope_init_2 _ _ kr rr gA f1 (by omega) (by omega)) dX18_of_50 (by omega) (by omega) (Nat.le_of_ble_eq_true rfl) (by omega) (by omega) (fun u50 h50 => ?_)
        obtain ⟨p1, p2, p3, p4⟩ := h50
        refine r_R ho dX18_of_53 (by omega) (by omega) ?_
        refine ⟨by rw [hAB]; exact p1, by rw [p3]; omega, fun b hb => ((Sm.al (by omega)).tr (S2 b (by omega))).tr (p4 b (by omega))⟩
      · 
        refine nX18_8 ho dX18_of_15 (by omega) (by omega) ?_
        refine z_dup ho dX18_of_18 rfl ?_
        refine z_aload_n ho dX18_of_19 rfl ?_
        refine z_iload_n ho dX18_of_20 rfl ?_
        refine z_iload_n ho dX18_of_21 rfl ?_
        refine z_iload_n ho dX18_of_22 rfl ?_
        refine z_isub ho dX18_of_23 ?_
        refine kX18_37 ho hN (c_Rope_init (E := E) _ _ (T := T) (by rw [kd_al, if_pos rfl]) rfl (fun i => by rw [rv_al, if_pos rfl]) (by rw [hAl.1]; exact ka) h0 (by omega) hT hl (by rw [hAl.2.1]; omega) (fun q x hx => by rw [hAl.2.2.1]; exact hA q x hx) hch hE) dX18_of_24 (by omega) (by omega) (Nat.le_of_ble_eq_true rfl) (by omega) (by omega) (fun u24 h24 => ?_)
        obtain ⟨g1, g2, g3, g4⟩ := h24
        refine r_R ho dX18_of_27 (by omega) (by omega) ?_
        exact ⟨RT.mono _ _ _ _ g1 (by omega), by rw [g3]; omega, fun b hb => (Sm.al (by omega)).tr (g4 b hb)⟩
    · omega
theorem c_even (l : Launch) (u : Mem) {E n r : Nat} {T : List Int} (h : RT E u n r T) (hT8 : 8 < T.length) (hT : T.length ≤ 120) (hE : E ≤ sz_ u) : Mt_ l yX18_even cX18_even 3 (some (.object "KeyHall$Rope")) 7 90 540 [aR r] u (qR fun x v => RT E v 5 x T ∧ sz_ u ≤ sz_ v ∧ ∀ b, b < sz_ u → Sm u v b) := by
  have f := h.kd
  have hch := (RT.chars _ _ _ h).1
  refine Mt_of (by decide) (Nat.le_of_ble_eq_true rfl) (fun X ho hX hN hI => ?_)
  subst hX
  show Z X 0 [some (aR r), none, none] [] u 0 0
  refine z_wf (fun hw => ?_)
  have hrl := hw.1 r (by omega)
  have S1 : ∀ b, b < sz_ u → Sm u (al_ u 101 (T.length : Int)) b := fun b hb => Sm.al (by omega)
  refine z_aload_n ho dX18_even_0 rfl ?_
  refine gX18_13 ho dX18_even_1 f.1 ?_
  rw [f.2.1]
  refine na_C ho dX18_even_4 (by omega) (by omega) (Nat.le_of_ble_eq_true rfl) (by omega) ?_
  refine z_astore_n ho dX18_even_6 (Nat.le_of_ble_eq_true rfl) rfl ?_
  refine z_iconst ho dX18_even_7 ?_
  refine z_istore_n ho dX18_even_8 (Nat.le_of_ble_eq_true rfl) rfl ?_
  refine z_cu (cu' := 1) (su' := 120) (Nat.le_of_ble_eq_true rfl) (by omega) ?_
  generalize hNN : sz_ u = N at *
  have key : ∀ (C A : List Int) (v : Mem), T = A ++ C → PL v N A → (∀ b, b < N → Sm u v b) → kd_ v N = 101 → ln_ v N = T.length → sz_ v = N + 1 → Z X 9 [some (aR r), some (aR N), some (aI (A.length : Int))] [] v 1 120 := by
    intro C
    induction C with
    | nil =>
      intro A v h1 h2 h3 h4 h5 h6
      rw [List.append_nil] at h1
      have sr := h3 r hrl.1
      have fl : iv_ v r 0 = T.length := by rw [sr.2.2.1]; exact f.2.1
      have kr : kd_ v r = 18 := by rw [sr.1]; exact f.1
      have e1 : cO T.length = max 2 (3 * T.length / 4 - 1) := rfl
      have e2 : sO T.length = T.length + max 5 (10 * T.length / 4 - 5) := rfl
      refine z_iload_n ho dX18_even_9 rfl ?_
      refine z_aload_n ho dX18_even_10 rfl ?_
      refine gX18_13 ho dX18_even_11 kr ?_
      rw [fl, ← h1]
      refine z_icmp_ge (tgt := 31) ho dX18_even_14 (by decide) (by unfold rng; omega) (by unfold rng; omega) (fun c14 => ?_) (fun c14 => ?_)
      · 
        refine z_aload_n ho dX18_even_31 rfl ?_
        refine z_iconst ho dX18_even_32 ?_
        refine z_aload_n ho dX18_even_33 rfl ?_
        refine gX18_13 ho dX18_even_34 kr ?_
        rw [fl]
        refine kX18_51 ho hN (c_of _ (E := E) 4 v N 0 (T.length : Int) T (by omega) f.2.2 (by omega) (by omega) h4 (by omega) (by omega) (by omega) (by omega) (fun j x hx => by rw [Int.zero_add]; exact h2 j x (by rw [← h1]; exact hx)) hch (by omega)) dX18_even_37 (by omega) (Nat.le_of_ble_eq_true rfl) (by omega) (by omega) (fun x37 u37 h37 => ?_)
        obtain ⟨g1, g2, g3⟩ := h37
        refine r_R ho dX18_even_40 (by omega) (by omega) ?_
        exact ⟨g1, by omega, fun b hb => (h3 b hb).tr (g3 b (by omega))⟩
      · omega
    | cons c C ih =>
      intro A v h1 h2 h3 h4 h5 h6
      have hlen : T.length = A.length + (C.length + 1) := by rw [h1]; simp
      have sr := h3 r hrl.1
      have fl : iv_ v r 0 = T.length := by rw [sr.2.2.1]; exact f.2.1
      have kr : kd_ v r = 18 := by rw [sr.1]; exact f.1
      have hv : RT E v n r T := RT.frame (fun a ha => h3 a (by have := hw.1 a (by omega); omega)) (fun a ha _ => h3 a (by have := hw.1 a (by omega); omega)) _ _ _ h
      have ec : ch T (A.length : Int) = c := by rw [h1]; unfold ch; simp
      have hcr := hch c (by rw [h1]; simp)
      refine z_iload_n ho dX18_even_9 rfl ?_
      refine z_aload_n ho dX18_even_10 rfl ?_
      refine gX18_13 ho dX18_even_11 kr ?_
      rw [fl]
      refine z_icmp_ge (tgt := 31) ho dX18_even_14 (by decide) (by unfold rng; omega) (by unfold rng; omega) (fun c14 => ?_) (fun c14 => ?_)
      · omega
      · 
        refine z_aload_n ho dX18_even_17 rfl ?_
        refine z_iload_n ho dX18_even_18 rfl ?_
        refine z_aload_n ho dX18_even_19 rfl ?_
        refine z_iload_n ho dX18_even_20 rfl ?_
        refine kX18_33 ho hN (c_ropeat _ _ hv (by omega) (by omega) (by omega)) dX18_even_21 kr (by omega) (Nat.le_of_ble_eq_true rfl) (by omega) (by omega) (fun x21 u21 h21 => ?_)
        obtain ⟨rfl, rfl⟩ := h21
        rw [ec]
        refine z_cast ho dX18_even_24 h4 (by omega) (by omega) hcr.1 hcr.2 ?_
        refine z_iinc ho dX18_even_25 rfl rfl ?_
        refine z_goto (tgt := 9) ho dX18_even_28 (by decide) ?_
        have := ih (A ++ [c]) _ (by rw [h1]; simp) (PL.snoc (i := (A.length : Int)) (x := c) h2 rfl) (fun b hb => (h3 b hb).tr (Sm.wI (by omega))) h4 h5 h6
        rw [List.length_append] at this
        exact this
  exact key T [] _ rfl (PL.nil _ _) S1 (by rw [kd_al, hNN, if_pos rfl]) (by rw [ln_al, hNN, if_pos rfl]) (by rw [sz_al, hNN])
/-- a rope, or nothing -/
def RO (E : Nat) (u : Mem) (r : Nat) (T : List Int) : Prop := (r = 0 ∧ T = []) ∨ RT E u 12 r T
theorem RO.frame {E : Nat} {u u' : Mem} {r : Nat} {T : List Int} (h8 : ∀ a, kd_ u a = 18 → Sm u u' a) (h101 : ∀ a, kd_ u a = 101 → E ≤ a → Sm u u' a) (h : RO E u r T) : RO E u' r T := by
  rcases h with h | h
  · exact Or.inl h
  · exact Or.inr (RT.frame h8 h101 _ _ _ h)
theorem c_joinN (l : Launch) (u : Mem) {a b : Nat} (h : a = 0 ∨ b = 0) : Mt_ l yX18_join cX18_join 4 (some (.object "KeyHall$Rope")) 0 0 0 [aR a, aR b] u (qR fun r v => u = v ∧ r = if a = 0 then b else a) := by
  refine Mt_of (by decide) (Nat.le_of_ble_eq_true rfl) (fun X ho hX hN hI => ?_)
  subst hX
  show Z X 0 [some (aR a), some (aR b), none, none] [] u 0 0
  refine z_aload_n ho dX18_join_0 rfl ?_
  refine z_ifnonnull (tgt := 6) ho dX18_join_1 (by decide) (fun c1 => ?_) (fun c1 => ?_)
  · 
    refine z_aload_n ho dX18_join_6 rfl ?_
    refine z_ifnonnull (tgt := 12) ho dX18_join_7 (by decide) (fun c7 => ?_) (fun c7 => ?_)
    · exact absurd h (by omega)
    · 
      refine z_aload_n ho dX18_join_10 rfl ?_
      refine r_R ho dX18_join_11 (Nat.le_of_ble_eq_true rfl) (Nat.le_of_ble_eq_true rfl) ?_
      exact ⟨rfl, by rw [if_neg c1]⟩
  · 
    refine z_aload_n ho dX18_join_4 rfl ?_
    refine r_R ho dX18_join_5 (Nat.le_of_ble_eq_true rfl) (Nat.le_of_ble_eq_true rfl) ?_
    exact ⟨rfl, by rw [if_pos c1]⟩
theorem c_join_ (l : Launch) (u : Mem) {E a b : Nat} {A B : List Int} (ha : RO E u a A) (hb : RO E u b B) (hl : A.length + B.length ≤ 120) (hE : E ≤ sz_ u) : Mt_ l yX18_join cX18_join 4 (some (.object "KeyHall$Rope")) 8 91 545 [aR a, aR b] u (qR fun r v => RO E v r (A ++ B) ∧ sz_ u ≤ sz_ v ∧ ∀ c, c < sz_ u → Sm u v c) := by
  by_cases hz : a = 0 ∨ b = 0
  · have hw0 : ∀ {r : Nat} {T : List Int}, RO E u r T → r = 0 → T = [] ∨ RT E u 12 0 T := fun h hr => by
      rcases h with ⟨-, h⟩ | h
      · exact Or.inl h
      · rw [hr] at h; exact Or.inr h
    refine Mt_of (by decide) (Nat.le_of_ble_eq_true rfl) (fun X ho hX hN hI => ?_)
    subst hX
    show Z X 0 [some (aR a), some (aR b), none, none] [] u 0 0
    refine z_wf (fun hw => ?_)
    have n0 : ∀ {r : Nat} {T : List Int}, RT E u 12 r T → r ≠ 0 := fun h => (hw.1 _ (by have := h.kd.1; omega)).2
    refine z_aload_n ho dX18_join_0 rfl ?_
    refine z_ifnonnull (tgt := 6) ho dX18_join_1 (by decide) (fun c1 => ?_) (fun c1 => ?_)
    · have hb0 : b = 0 := hz.resolve_left c1
      have hB : B = [] := by
        rcases hb with ⟨-, h⟩ | h
        · exact h
        · exact absurd hb0 (n0 h)
      refine z_aload_n ho dX18_join_6 rfl ?_
      refine z_ifnonnull (tgt := 12) ho dX18_join_7 (by decide) (fun c7 => ?_) (fun c7 => ?_)
      · exact absurd hb0 c7
      · 
        refine z_aload_n ho dX18_join_10 rfl ?_
        refine r_R ho dX18_join_11 (Nat.le_of_ble_eq_true rfl) (Nat.le_of_ble_eq_true rfl) ?_
        exact ⟨by rw [hB, List.append_nil]; exact ha, Nat.le_refl _, fun c _ => Sm.rf u c⟩
    · have hA : A = [] := by
        rcases ha with ⟨-, h⟩ | h
        · exact h
        · exact absurd c1 (n0 h)
      refine z_aload_n ho dX18_join_4 rfl ?_
      refine r_R ho dX18_join_5 (Nat.le_of_ble_eq_true rfl) (Nat.le_of_ble_eq_true rfl) ?_
      exact ⟨by rw [hA]; exact hb, Nat.le_refl _, fun c _ => Sm.rf u c⟩
  · have ha : RT E u 12 a A := ha.resolve_left (fun z => hz (Or.inl z.1))
    have hb : RT E u 12 b B := hb.resolve_left (fun z => hz (Or.inr z.1))
    have fA := ha.kd
    have fB := hb.kd
    have pA := List.length_pos_iff.mpr fA.2.2
    have pB := List.length_pos_iff.mpr fB.2.2
    have cA := RT.chars _ _ _ ha
    have cB := RT.chars _ _ _ hb
    have hchT : ∀ c ∈ A ++ B, 0 ≤ c ∧ c < 65536 := fun c hc => (List.mem_append.mp hc).elim (cA.1 c) (cB.1 c)
    have hTn : A ++ B ≠ [] := fun z => fA.2.2 (List.append_eq_nil_iff.mp z).1
    have hTl : (A ++ B).length = A.length + B.length := by simp
    refine Mt_of (by decide) (Nat.le_of_ble_eq_true rfl) (fun X ho hX hN hI => ?_)
    subst hX
    show Z X 0 [some (aR a), some (aR b), none, none] [] u 0 0
    refine z_wf (fun hw => ?_)
    have hal := hw.1 a (by omega)
    have hbl := hw.1 b (by omega)
    refine z_aload_n ho dX18_join_0 rfl ?_
    refine z_ifnonnull (tgt := 6) ho dX18_join_1 (by decide) (fun c1 => ?_) (fun c1 => ?_)
    · 
      refine z_aload_n ho dX18_join_6 rfl ?_
      refine z_ifnonnull (tgt := 12) ho dX18_join_7 (by decide) (fun c7 => ?_) (fun c7 => ?_)
      · 
        refine z_aload_n ho dX18_join_12 rfl ?_
        refine gX18_13 ho dX18_join_13 fA.1 ?_
        rw [fA.2.1]
        refine z_aload_n ho dX18_join_16 rfl ?_
        refine gX18_13 ho dX18_join_17 fB.1 ?_
        rw [fB.2.1]
        refine z_iadd ho dX18_join_20 ?_
        refine z_bipush ho dX18_join_21 rfl ?_
        refine z_icmp_gt (tgt := 93) ho dX18_join_23 (by decide) (by unfold rng; omega) (by unfold rng; omega) (fun c23 => ?_) (fun c23 => ?_)
        · -- a branch
          have S1 : ∀ c, c < sz_ u → Sm u (al_ u 18 0) c := fun c hc => Sm.al (by omega)
          have fr1 : ∀ {n r : Nat} {T : List Int}, RT E u n r T → RT E (al_ u 18 0) n r T := fun h => RT.frame (fun c hc => S1 c (hw.1 c (by omega)).1) (fun c hc _ => S1 c (hw.1 c (by omega)).1) _ _ _ h
          refine nX18_8 ho dX18_join_93 (Nat.le_of_ble_eq_true rfl) (Nat.le_of_ble_eq_true rfl) ?_
          refine z_dup ho dX18_join_96 rfl ?_
          refine z_aload_n ho dX18_join_97 rfl ?_
          refine z_aload_n ho dX18_join_98 rfl ?_
          refine kX18_40 ho hN (c_Rope_init_2 _ _ (by rw [kd_al, if_pos rfl]) (fun i => by rw [rv_al, if_pos rfl]) (fr1 ha) (fr1 hb) (by omega) (by omega)) dX18_join_99 (by omega) (by omega) (Nat.le_of_ble_eq_true rfl) (by omega) (by omega) (fun u99 h99 => ?_)
          obtain ⟨p1, p2, p3, p4⟩ := h99
          refine z_wf (fun hw99 => ?_)
          rw [sz_al] at p3
          have S2 : ∀ c, c < sz_ u → Sm u u99 c := fun c hc => (S1 c hc).tr (p4 c (by omega))
          have kx := p1.kd
          have dx := (RT.chars _ _ _ p1).2
          have ev : Z X 133 [some (aR a), some (aR b), some (aR (sz_ u)), none] [] u99 1 5 := by
            refine z_aload_n ho dX18_join_133 rfl ?_
            refine kX18_47 ho hN (c_even _ _ p1 (by omega) (by omega) (by omega)) dX18_join_134 kx.1 (by omega) (Nat.le_of_ble_eq_true rfl) (by omega) (by omega) (fun x134 u134 h134 => ?_)
            obtain ⟨g1, g2, g3⟩ := h134
            refine r_R ho dX18_join_137 (by omega) (by omega) ?_
            exact ⟨Or.inr (RT.mono _ _ _ _ g1 (by omega)), by omega, fun c hc => (S2 c hc).tr (g3 c (by omega))⟩
          refine z_astore_n ho dX18_join_102 (Nat.le_of_ble_eq_true rfl) rfl ?_
          refine z_aload_n ho dX18_join_103 rfl ?_
          refine gX18_17 ho dX18_join_104 kx.1 ?_
          refine z_gs ho dX18_join_107 (fun t107 l107 => ?_)
          refine z_leN ho dX18_join_110 l107 ?_
          refine z_icmp_ge (tgt := 133) ho dX18_join_111 (by decide) (by unfold rng; omega) (by unfold rng; omega) (fun c111 => ?_) (fun c111 => ?_)
          · exact ev
          · 
            refine z_aload_n ho dX18_join_114 rfl ?_
            refine gX18_13 ho dX18_join_115 kx.1 ?_
            refine z_gs ho dX18_join_118 (fun t118 l118 => ?_)
            refine z_aload_n ho dX18_join_121 rfl ?_
            refine gX18_17 ho dX18_join_122 kx.1 ?_
            refine z_leA ho dX18_join_125 l118 dx.1 (by omega) ?_
            refine z_icmp_lt (tgt := 133) ho dX18_join_126 (by decide) (by rw [kx.2.1, hTl]; unfold rng; omega) (lea_rng _) (fun c126 => ?_) (fun c126 => ?_)
            · exact ev
            · 
              refine z_aload_n ho dX18_join_129 rfl ?_
              refine z_goto (tgt := 137) ho dX18_join_130 (by decide) ?_
              refine r_R ho dX18_join_137 (by omega) (by omega) ?_
              exact ⟨Or.inr (RT.mono _ _ _ _ (RT.fit _ _ _ p1) (by omega)), by omega, S2⟩
        · -- few characters
          have S1 : ∀ c, c < sz_ u → Sm u (al_ u 101 ((A.length : Int) + B.length)) c := fun c hc => Sm.al (by omega)
          refine z_aload_n ho dX18_join_26 rfl ?_
          refine gX18_13 ho dX18_join_27 fA.1 ?_
          rw [fA.2.1]
          refine z_aload_n ho dX18_join_30 rfl ?_
          refine gX18_13 ho dX18_join_31 fB.1 ?_
          rw [fB.2.1]
          refine z_iadd ho dX18_join_34 ?_
          refine na_C ho dX18_join_35 (by omega) (by omega) (by omega) (by omega) ?_
          refine z_astore_n ho dX18_join_37 (Nat.le_of_ble_eq_true rfl) rfl ?_
          refine z_iconst ho dX18_join_38 ?_
          refine z_istore_n ho dX18_join_39 (Nat.le_of_ble_eq_true rfl) rfl ?_
          refine z_cu (cu' := 1) (su' := 8) (Nat.le_of_ble_eq_true rfl) (by omega) ?_
          generalize hNN : sz_ u = N at *
          have key : ∀ (C P : List Int) (v : Mem), A ++ B = P ++ C → PL v N P → (∀ b, b < N → Sm u v b) → kd_ v N = 101 → ln_ v N = (A.length : Int) + B.length → sz_ v = N + 1 → Z X 40 [some (aR a), some (aR b), some (aR N), some (aI (P.length : Int))] [] v 1 8 := by
            intro C
            induction C with
            | nil =>
              intro P v h1 h2 h3 h4 h5 h6
              rw [List.append_nil] at h1
              have hPl : P.length = A.length + B.length := by rw [← h1]; simp
              have hAl : Sm v (al_ v 18 0) N := Sm.al (by omega)
              refine z_iload_n ho dX18_join_40 rfl ?_
              refine z_aload_n ho dX18_join_41 rfl ?_
              refine z_alen ho dX18_join_42 (by decide) h4 ?_
              rw [h5]
              refine z_icmp_ge (tgt := 81) ho dX18_join_43 (by decide) (by unfold rng; omega) (by unfold rng; omega) (fun c43 => ?_) (fun c43 => ?_)
              · 
                refine nX18_8 ho dX18_join_81 (by omega) (by omega) ?_
                refine z_dup ho dX18_join_84 rfl ?_
                refine z_aload_n ho dX18_join_85 rfl ?_
                refine z_iconst ho dX18_join_86 ?_
                refine z_aload_n ho dX18_join_87 rfl ?_
                refine z_alen ho dX18_join_88 (by decide) (show kd_ (al_ v 18 0) N = 101 by rw [hAl.1]; exact h4) ?_
                rw [hAl.2.1, h5]
                refine kX18_37 ho hN (c_Rope_init (E := E) _ _ (T := A ++ B) (by rw [kd_al, if_pos rfl]) rfl (fun i => by rw [rv_al, if_pos rfl]) (by rw [hAl.1]; exact h4) (by omega) (by rw [hTl]; omega) hTn (by omega) (by rw [hAl.2.1, h5]; omega) (fun q x hx => by rw [hAl.2.2.1, Int.zero_add]; exact h2 q x (by rw [← h1]; exact hx)) hchT (by omega)) dX18_join_89 (by omega) (by omega) (Nat.le_of_ble_eq_true rfl) (by omega) (by omega) (fun u89 h89 => ?_)
                obtain ⟨g1, g2, g3, g4⟩ := h89
                refine r_R ho dX18_join_92 (by omega) (by omega) ?_
                exact ⟨Or.inr (RT.mono _ _ _ _ g1 (by omega)), by rw [g3]; omega, fun c hc => ((h3 c hc).tr (Sm.al (by omega))).tr (g4 c (by omega))⟩
              · omega
            | cons c C ih =>
              intro P v h1 h2 h3 h4 h5 h6
              have hPl : A.length + B.length = P.length + (C.length + 1) := by rw [← hTl, h1]; simp
              have sa := h3 a hal.1
              have sb := h3 b hbl.1
              have fr1 : ∀ {n r : Nat} {T : List Int}, RT E u n r T → RT E v n r T := fun h => RT.frame (fun c hc => h3 c (by have := hw.1 c (by omega); omega)) (fun c hc _ => h3 c (by have := hw.1 c (by omega); omega)) _ _ _ h
              have ec : ch (A ++ B) (P.length : Int) = c := by rw [h1]; unfold ch; simp
              have hcr := hchT c (by rw [h1]; simp)
              rw [ch_app (by omega)] at ec
              have st : Z X 74 [some (aR a), some (aR b), some (aR N), some (aI (P.length : Int))] [aI c, aI (P.length : Int), aR N] v 1 8 := by
                refine z_cast ho dX18_join_74 h4 (by omega) (by omega) hcr.1 hcr.2 ?_
                refine z_iinc ho dX18_join_75 rfl rfl ?_
                refine z_goto (tgt := 40) ho dX18_join_78 (by decide) ?_
                have := ih (P ++ [c]) _ (by rw [h1]; simp) (PL.snoc (i := (P.length : Int)) (x := c) h2 rfl) (fun b hb => (h3 b hb).tr (Sm.wI (by omega))) h4 h5 h6
                rw [List.length_append] at this
                exact this
              have la : iv_ v a 0 = A.length := by rw [sa.2.2.1]; exact fA.2.1
              refine z_iload_n ho dX18_join_40 rfl ?_
              refine z_aload_n ho dX18_join_41 rfl ?_
              refine z_alen ho dX18_join_42 (by decide) h4 ?_
              rw [h5]
              refine z_icmp_ge (tgt := 81) ho dX18_join_43 (by decide) (by unfold rng; omega) (by unfold rng; omega) (fun c43 => ?_) (fun c43 => ?_)
              · omega
              · 
                refine z_aload_n ho dX18_join_46 rfl ?_
                refine z_iload_n ho dX18_join_47 rfl ?_
                refine z_iload_n ho dX18_join_48 rfl ?_
                refine z_aload_n ho dX18_join_49 rfl ?_
                refine gX18_13 ho dX18_join_50 (by rw [sa.1]; exact fA.1) ?_
                rw [la]
                refine z_icmp_ge (tgt := 64) ho dX18_join_53 (by decide) (by unfold rng; omega) (by unfold rng; omega) (fun c53 => ?_) (fun c53 => ?_)
                · rw [if_neg (by omega)] at ec
                  refine z_aload_n ho dX18_join_64 rfl ?_
                  refine z_iload_n ho dX18_join_65 rfl ?_
                  refine z_aload_n ho dX18_join_66 rfl ?_
                  refine gX18_13 ho dX18_join_67 (by rw [sa.1]; exact fA.1) ?_
                  rw [la]
                  refine z_isub ho dX18_join_70 ?_
                  refine kX18_33 ho hN (c_ropeat _ _ (fr1 hb) (by omega) (by omega) (by omega)) dX18_join_71 (by rw [sb.1]; exact fB.1) (by omega) (Nat.le_of_ble_eq_true rfl) (by omega) (by omega) (fun x71 u71 h71 => ?_)
                  obtain ⟨rfl, rfl⟩ := h71
                  rw [ec]
                  exact st
                · rw [if_pos (by omega)] at ec
                  refine z_aload_n ho dX18_join_56 rfl ?_
                  refine z_iload_n ho dX18_join_57 rfl ?_
                  refine kX18_33 ho hN (c_ropeat _ _ (fr1 ha) (by omega) (by omega) (by omega)) dX18_join_58 (by rw [sa.1]; exact fA.1) (by omega) (Nat.le_of_ble_eq_true rfl) (by omega) (by omega) (fun x58 u58 h58 => ?_)
                  obtain ⟨rfl, rfl⟩ := h58
                  rw [ec]
                  refine z_goto (tgt := 74) ho dX18_join_61 (by decide) ?_
                  exact st
          exact key (A ++ B) [] _ rfl (PL.nil _ _) S1 (by rw [kd_al, hNN, if_pos rfl]) (by rw [ln_al, hNN, if_pos rfl]) (by rw [sz_al, hNN])
      · exact absurd c7 (by omega)
    · exact absurd c1 (by omega)
