set_option maxRecDepth 100000
/-! ===== rows: the table Rope.LEAST ===== -/
def Le_ (X : Ctx_) (t : Nat) : Prop := match X with
  | (_, _, _, _, s, _, _, _, _, _, _, B, _) => LT_ B t s s.heap
theorem z_gs {X : Ctx_} {cc : ByteArray} {ret : Option FieldType} {d mc ms : Nat} {Q : Option AV → Mem → Prop} {pc : Nat} {ls : List (Option AV)} {st : List AV} {u : Mem} {cu su : Nat} (ho : Ok_ X "KeyHall$Rope" cc ret d mc ms Q) (hd : decode cc pc = .ok (.getstatic 43, 3)) (kk : ∀ t, Le_ X t → Z X (pc + 3) ls (aR (t + 1) :: st) u cu su) : Z X pc ls st u cu su := by
  obtain ⟨p, l, e, R, s, m, args, below, meth, c, D, B, F⟩ := X
  obtain ⟨hx, hb, hret, hlk, hown, hts, hK, hB, hRm, hF⟩ := ho
  obtain ⟨t, hT⟩ := hK.2.2.1
  intro H locs la hR hS hL
  exact va_gets hx hb hT.1 hS hown (hts _ q1246) (fun x h => h) hd (kk t hT H locs la hR hS hL)
theorem z_leN {X : Ctx_} {own : String} {cc : ByteArray} {ret : Option FieldType} {d mc ms : Nat} {Q : Option AV → Mem → Prop} {pc : Nat} {ls : List (Option AV)} {st : List AV} {u : Mem} {cu su t : Nat} (ho : Ok_ X own cc ret d mc ms Q) (hd : decode cc pc = .ok (.arraylength, 1)) (hT : Le_ X t) (kk : Z X (pc + 1) ls (aI 12 :: st) u cu su) : Z X pc ls (aR (t + 1) :: st) u cu su := by
  obtain ⟨p, l, e, R, s, m, args, below, meth, c, D, B, F⟩ := X
  obtain ⟨hx, hb, hret, hlk, hown, hts, hK, hB, hRm, hF⟩ := ho
  intro H locs la hR hS hL
  exact va_tlen hx hb hT.2 hS (v := Int32.ofInt 12) rfl hd (kk H locs la hR hS hL)
theorem z_leA {X : Ctx_} {own : String} {cc : ByteArray} {ret : Option FieldType} {d mc ms : Nat} {Q : Option AV → Mem → Prop} {pc : Nat} {ls : List (Option AV)} {st : List AV} {u : Mem} {cu su t : Nat} {i : Int} (ho : Ok_ X own cc ret d mc ms Q) (hd : decode cc pc = .ok (.iaload, 1)) (hT : Le_ X t) (h0 : 0 ≤ i) (h1 : i < 12) (kk : Z X (pc + 1) ls (aI (lea_ i.toNat) :: st) u cu su) : Z X pc ls (aI i :: aR (t + 1) :: st) u cu su := by
  obtain ⟨p, l, e, R, s, m, args, below, meth, c, D, B, F⟩ := X
  obtain ⟨hx, hb, hret, hlk, hown, hts, hK, hB, hRm, hF⟩ := ho
  intro H locs la hR hS hL
  exact va_ti hx hb hT.2 hS (ix_in h0 h1 (by omega)) (v := tV (aI (lea_ i.toNat))) (by rw [ix_cl h0 h1 (by omega)]; rfl) hd (kk H locs la hR hS hL)
theorem lea_rng (j : Nat) : rng (lea_ j) := by
  by_cases h : j < 12
  · have : ∀ j : Fin 12, 0 ≤ lea_ j.val ∧ lea_ j.val ≤ 233 := by decide
    have := this ⟨j, h⟩
    unfold rng
    simp only at this
    omega
  · unfold lea_
    rw [List.getD_eq_getElem?_getD, List.getElem?_eq_none (by simp; omega)]
    show rng 0
    unfold rng; omega
/-! ===== ropes ===== -/
def RT (E : Nat) (u : Mem) : Nat → Nat → List Int → Prop
  | 0, _, _ => False
  | n + 1, r, T => kd_ u r = 18 ∧ iv_ u r 0 = T.length ∧ T ≠ [] ∧ ((rv_ u r 2 ≠ 0 ∧ iv_ u r 1 = 0 ∧ kd_ u (rv_ u r 2) = 101 ∧ ln_ u (rv_ u r 2) = T.length ∧ E ≤ rv_ u r 2 ∧ PL u (rv_ u r 2) T ∧ ∀ c ∈ T, 0 ≤ c ∧ c < 65536) ∨
      (rv_ u r 2 = 0 ∧ iv_ u r 1 = 1 + max (iv_ u (rv_ u r 3) 1) (iv_ u (rv_ u r 4) 1) ∧ ∃ A B, T = A ++ B ∧ RT E u n (rv_ u r 3) A ∧ RT E u n (rv_ u r 4) B))
theorem RT.chars {E : Nat} {u : Mem} : ∀ (n r : Nat) (T : List Int), RT E u n r T → (∀ c ∈ T, 0 ≤ c ∧ c < 65536) ∧ 0 ≤ iv_ u r 1 ∧ iv_ u r 1 < n := by
  intro n
  induction n with
  | zero => intro r T h; exact h.elim
  | succ n ih =>
    intro r T h
    obtain ⟨-, -, -, h | ⟨-, h1, A, B, rfl, hA, hB⟩⟩ := h
    · exact ⟨h.2.2.2.2.2.2, by omega, by omega⟩
    · have a := ih _ _ hA
      have b := ih _ _ hB
      refine ⟨fun c hc => ?_, by omega, by omega⟩
      rcases List.mem_append.mp hc with q | q
      · exact a.1 c q
      · exact b.1 c q
theorem RT.mono {E : Nat} {u : Mem} : ∀ (n m r : Nat) (T : List Int), RT E u n r T → n ≤ m → RT E u m r T := by
  intro n
  induction n with
  | zero => intro m r T h; exact h.elim
  | succ n ih =>
    intro m r T h hm
    obtain ⟨m, rfl⟩ : ∃ k, m = k + 1 := ⟨m - 1, by omega⟩
    obtain ⟨h1, h2, h3, h | ⟨h4, h5, A, B, h6, hA, hB⟩⟩ := h
    · exact ⟨h1, h2, h3, Or.inl h⟩
    · exact ⟨h1, h2, h3, Or.inr ⟨h4, h5, A, B, h6, ih _ _ _ hA (by omega), ih _ _ _ hB (by omega)⟩⟩
theorem RT.fit {E : Nat} {u : Mem} : ∀ (n r : Nat) (T : List Int), RT E u n r T → RT E u ((iv_ u r 1).toNat + 1) r T := by
  intro n
  induction n with
  | zero => intro r T h; exact h.elim
  | succ n ih =>
    intro r T h
    obtain ⟨h1, h2, h3, h | ⟨h4, h5, A, B, h6, hA, hB⟩⟩ := h
    · exact ⟨h1, h2, h3, Or.inl h⟩
    · have a := RT.chars _ _ _ hA
      have b := RT.chars _ _ _ hB
      exact ⟨h1, h2, h3, Or.inr ⟨h4, h5, A, B, h6, RT.mono _ _ _ _ (ih _ _ hA) (by omega), RT.mono _ _ _ _ (ih _ _ hB) (by omega)⟩⟩
theorem RT.frame {E : Nat} {u u' : Mem} (h8 : ∀ a, kd_ u a = 18 → Sm u u' a) (h101 : ∀ a, kd_ u a = 101 → E ≤ a → Sm u u' a) : ∀ (n r : Nat) (T : List Int), RT E u n r T → RT E u' n r T := by
  intro n
  induction n with
  | zero => intro r T h; exact h.elim
  | succ n ih =>
    intro r T h
    obtain ⟨h1, h2, h3, h | ⟨h4, h5, A, B, h6, hA, hB⟩⟩ := h
    · have s := h8 r h1
      obtain ⟨c1, c2, c3, c4, c5, c6, c7⟩ := h
      have t := h101 _ c3 c5
      refine ⟨by rw [s.1]; exact h1, by rw [s.2.2.1]; exact h2, h3, Or.inl ⟨by rw [s.2.2.2]; exact c1, by rw [s.2.2.1]; exact c2, by rw [s.2.2.2, t.1]; exact c3, by rw [s.2.2.2, t.2.1]; exact c4, by rw [s.2.2.2]; exact c5, by rw [s.2.2.2]; exact c6.same t.2.2.1, c7⟩⟩
    · have s := h8 r h1
      have kA : kd_ u (rv_ u r 3) = 18 := by cases n with
        | zero => exact hA.elim
        | succ n => exact hA.1
      have kB : kd_ u (rv_ u r 4) = 18 := by cases n with
        | zero => exact hB.elim
        | succ n => exact hB.1
      have sA := h8 _ kA
      have sB := h8 _ kB
      refine ⟨by rw [s.1]; exact h1, by rw [s.2.2.1]; exact h2, h3, Or.inr ⟨by rw [s.2.2.2]; exact h4, by rw [s.2.2.1, s.2.2.2, s.2.2.2, sA.2.2.1, sB.2.2.1]; exact h5, A, B, h6, by rw [s.2.2.2]; exact ih _ _ hA, by rw [s.2.2.2]; exact ih _ _ hB⟩⟩
theorem RT.kd {E : Nat} {u : Mem} {n r : Nat} {T : List Int} (h : RT E u n r T) : kd_ u r = 18 ∧ iv_ u r 0 = T.length ∧ T ≠ [] := by
  cases n with
  | zero => exact h.elim
  | succ n => exact ⟨h.1, h.2.1, h.2.2.1⟩
theorem ch_app {A B : List Int} {i : Int} (h0 : 0 ≤ i) : ch (A ++ B) i = if i < A.length then ch A i else ch B (i - A.length) := by
  unfold ch
  simp only [List.getD_eq_getElem?_getD]
  by_cases h : i < A.length
  · rw [if_pos h, List.getElem?_append_left (by omega)]
  · rw [if_neg h, List.getElem?_append_right (by omega)]
    congr 2
    omega
theorem c_ropeat (l : Launch) (u : Mem) {E n r : Nat} {T : List Int} {i : Int} (h : RT E u n r T) (h0 : 0 ≤ i) (h1 : i < T.length) (hT : T.length ≤ 240) : Mt_ l yX18_at cX18_at 5 (some .char) 0 0 0 [aR r, aI i] u (qI fun x u' => u = u' ∧ x = ch T i) := by
  refine Mt_of (by decide) (Nat.le_of_ble_eq_true rfl) (fun X ho hX hN hI => ?_)
  subst hX
  show Z X 0 [some (aR r), some (aI i), none, none, none] [] u 0 0
  refine z_wf (fun hw => ?_)
  have key : ∀ (n r' : Nat) (T' : List Int) (k : Int) (tm : Option AV), RT E u n r' T' → 0 ≤ k → k < T'.length → T'.length ≤ 240 → ch T' k = ch T i → Z X 4 [some (aR r), some (aI i), some (aR r'), some (aI k), tm] [] u 0 0 := by
    intro n
    induction n with
    | zero => intro r' T' k tm h; exact h.elim
    | succ n ih =>
      intro r' T' k tm h k0 k1 hl he
      have hch := (RT.chars _ _ _ h).1
      obtain ⟨kr, hlen, hne, hcase⟩ := h
      refine z_aload_n ho dX18_at_4 rfl ?_
      refine gX18_7 ho dX18_at_5 kr ?_
      refine z_ifnonnull (tgt := 68) ho dX18_at_8 (by decide) (fun c8 => ?_) (fun c8 => ?_)
      · rcases hcase with ⟨c1, c2, c3, c4, c5, c6, c7⟩ | ⟨c1, -⟩
        · have hv : iv_ u (rv_ u r' 2) k = ch T i := by
            rw [← he]
            have := c6 k.toNat (T'[k.toNat]'(by omega)) (List.getElem?_eq_getElem _)
            rw [Int.toNat_of_nonneg k0] at this
            rw [this]
            unfold ch
            rw [List.getD_eq_getElem?_getD, List.getElem?_eq_getElem (by omega)]
            rfl
          have hr : 0 ≤ ch T i ∧ ch T i < 65536 := by
            rw [← he]
            unfold ch
            rw [List.getD_eq_getElem?_getD, List.getElem?_eq_getElem (by omega)]
            exact hch _ (List.getElem_mem _)
          refine z_aload_n ho dX18_at_68 rfl ?_
          refine gX18_7 ho dX18_at_69 kr ?_
          refine z_iload_n ho dX18_at_72 rfl ?_
          refine z_cald ho dX18_at_73 c3 k0 (by omega) ?_
          rw [hv]
          refine r_C ho dX18_at_74 (Nat.le_of_ble_eq_true rfl) (Nat.le_of_ble_eq_true rfl) ?_ ?_ ?_
          · exact hr.1
          · exact hr.2
          · exact ⟨rfl, rfl⟩
        · exact absurd c1 c8
      · obtain ⟨d1, d2, A, B, rfl, hA, hB⟩ := hcase.resolve_left (fun z => z.1 c8)
        have fA := hA.kd
        have fB := hB.kd
        rw [List.length_append] at k1 hl
        rw [ch_app k0] at he
        have go : ∀ b : Int, ((b = 1 ∧ (A.length : Int) ≤ k) ∨ (b = 0 ∧ k < A.length)) → Z X 27 [some (aR r), some (aI i), some (aR r'), some (aI k), tm] [aI b] u 0 0 := fun b hb => by
          rcases hb with ⟨rfl, hb⟩ | ⟨rfl, hb⟩
          · rw [if_neg (by omega)] at he
            refine z_istore ho dX18_at_27 (Nat.le_of_ble_eq_true rfl) rfl ?_
            refine z_iload_n ho dX18_at_29 rfl ?_
            refine z_iload ho dX18_at_30 rfl ?_
            refine z_if_eq (tgt := 45) ho dX18_at_32 (by decide) (by unfold rng; omega) (fun c32 => ?_) (fun c32 => ?_)
            · exact absurd c32 (by decide)
            · 
              refine z_aload_n ho dX18_at_35 rfl ?_
              refine gX18_20 ho dX18_at_36 kr ?_
              refine gX18_13 ho dX18_at_39 fA.1 ?_
              rw [fA.2.1]
              refine z_goto (tgt := 46) ho dX18_at_42 (by decide) ?_
              refine z_isub ho dX18_at_46 ?_
              refine z_istore_n ho dX18_at_47 (Nat.le_of_ble_eq_true rfl) rfl ?_
              refine z_iload ho dX18_at_48 rfl ?_
              refine z_if_eq (tgt := 60) ho dX18_at_50 (by decide) (by unfold rng; omega) (fun c50 => ?_) (fun c50 => ?_)
              · exact absurd c50 (by decide)
              · 
                refine z_aload_n ho dX18_at_53 rfl ?_
                refine gX18_24 ho dX18_at_54 kr ?_
                refine z_goto (tgt := 64) ho dX18_at_57 (by decide) ?_
                refine z_astore_n ho dX18_at_64 (Nat.le_of_ble_eq_true rfl) rfl ?_
                refine z_goto (tgt := 4) ho dX18_at_65 (by decide) ?_
                exact ih _ B _ _ hB (by omega) (by omega) (by omega) he
          · rw [if_pos hb] at he
            refine z_istore ho dX18_at_27 (Nat.le_of_ble_eq_true rfl) rfl ?_
            refine z_iload_n ho dX18_at_29 rfl ?_
            refine z_iload ho dX18_at_30 rfl ?_
            refine z_if_eq (tgt := 45) ho dX18_at_32 (by decide) (by unfold rng; omega) (fun c32 => ?_) (fun c32 => ?_)
            · 
              refine z_iconst ho dX18_at_45 ?_
              refine z_isub ho dX18_at_46 ?_
              refine z_istore_n ho dX18_at_47 (Nat.le_of_ble_eq_true rfl) rfl ?_
              refine z_iload ho dX18_at_48 rfl ?_
              refine z_if_eq (tgt := 60) ho dX18_at_50 (by decide) (by unfold rng; omega) (fun c50 => ?_) (fun c50 => ?_)
              · 
                refine z_aload_n ho dX18_at_60 rfl ?_
                refine gX18_20 ho dX18_at_61 kr ?_
                refine z_astore_n ho dX18_at_64 (Nat.le_of_ble_eq_true rfl) rfl ?_
                refine z_goto (tgt := 4) ho dX18_at_65 (by decide) ?_
                rw [show k - 0 = k by omega]
                exact ih _ A _ _ hA k0 hb (by omega) he
              · exact absurd rfl c50
            · exact absurd rfl c32
        refine z_iload_n ho dX18_at_11 rfl ?_
        refine z_aload_n ho dX18_at_12 rfl ?_
        refine gX18_20 ho dX18_at_13 kr ?_
        refine gX18_13 ho dX18_at_16 fA.1 ?_
        rw [fA.2.1]
        refine z_icmp_lt (tgt := 26) ho dX18_at_19 (by decide) (by unfold rng; omega) (by unfold rng; omega) (fun c19 => ?_) (fun c19 => ?_)
        · 
          refine z_iconst ho dX18_at_26 ?_
          exact go 0 (Or.inr ⟨rfl, c19⟩)
        · 
          refine z_iconst ho dX18_at_22 ?_
          refine z_goto (tgt := 27) ho dX18_at_23 (by decide) ?_
          exact go 1 (Or.inl ⟨rfl, by omega⟩)
  refine z_aload_n ho dX18_at_0 rfl ?_
  refine z_astore_n ho dX18_at_1 (Nat.le_of_ble_eq_true rfl) rfl ?_
  refine z_iload_n ho dX18_at_2 rfl ?_
  refine z_istore_n ho dX18_at_3 (Nat.le_of_ble_eq_true rfl) rfl ?_
  exact key n r T i none h h0 h1 hT rfl
/-- an array holds L from a place on -/
def AL (u : Mem) (a : Nat) (off : Int) (L : List Int) : Prop := ∀ (j : Nat) x, L[j]? = some x → iv_ u a (off + (j : Int)) = x
theorem c_Rope_init (l : Launch) (u : Mem) {E r a : Nat} {off n : Int} {T : List Int} (kr : kd_ u r = 18) (hz : sz_ u = r + 1) (hr : ∀ i, rv_ u r i = 0) (ka : kd_ u a = 101) (h0 : 0 ≤ off) (hn : n = T.length) (hT : T ≠ []) (hTl : T.length ≤ 240) (hl : off + n ≤ ln_ u a) (hA : AL u a off T) (hch : ∀ c ∈ T, 0 ≤ c ∧ c < 65536) (hE : E ≤ r) : Mt_ l yX18_init cX18_init 5 none 1 1 T.length [aR r, aR a, aI off, aI n] u (qV fun v => RT E v 1 r T ∧ iv_ v r 1 = 0 ∧ sz_ v = r + 2 ∧ ∀ b, b < r → Sm u v b) := by
  subst hn
  refine Mt_of (by decide) (Nat.le_of_ble_eq_true rfl) (fun X ho hX hN hI => ?_)
  subst hX
  have hin : In_ X := hI rfl
  show Z X 0 [some (aR r), some (aR a), some (aI off), some (aI  (T.length:Int)), none] [] u 0 0
  refine z_wf (fun hw => ?_)
  have hr0 := (hw.1 r (by omega)).2
  have hal := hw.1 a (by omega)
  have hln := (hw.2.1 a (by omega)).2
  have hTp := List.length_pos_iff.mpr hT
  have nar : a ≠ r := fun z => by rw [z] at ka; omega
  obtain ⟨w, hw1, hw2, hw3, hw4, hw5, hw6, hw7, hw8, hw9, hw10⟩ := na_facts u 101 (T.length : Int) r 2 (r + 1) (by omega) hz
  refine z_aload_n ho dX18_init_0 rfl ?_
  refine kX18_1 ho hN dX18_init_1 hr0 (Nat.le_of_ble_eq_true rfl) (Nat.le_of_ble_eq_true rfl) ?_
  refine z_aload_n ho dX18_init_4 rfl ?_
  refine z_iload_n ho dX18_init_5 rfl ?_
  refine na_C ho dX18_init_6 (by omega) (by omega) (Nat.le_of_ble_eq_true rfl) (by omega) ?_
  refine pX18_7 ho dX18_init_8 (by rw [kd_al, if_neg (by omega)]; exact kr)  ?_
  rw [hz, hw1]
  refine z_iconst ho dX18_init_11 ?_
  refine z_istore ho dX18_init_12 (Nat.le_of_ble_eq_true rfl) rfl ?_
  refine z_cu (cu' := 1) (su' := T.length) (Nat.le_of_ble_eq_true rfl) (by omega) ?_
  have kw : kd_ w r = 18 := by rw [hw5.1]; exact kr
  have key : ∀ (C A : List Int) (v : Mem), T = A ++ C → PL v (r + 1) A → (∀ b, b ≠ r + 1 → Sm w v b) → kd_ v (r + 1) = 101 → ln_ v (r + 1) = T.length → sz_ v = sz_ w → (∀ i, rv_ v (r + 1) i = 0) → Z X 14 [some (aR r), some (aR a), some (aI off), some (aI (T.length : Int)), some (aI (A.length : Int))] [] v 1 T.length := by
    intro C
    induction C with
    | nil =>
      intro A v h1 h2 h3 h4 h5 h6 h7
      rw [List.append_nil] at h1
      subst h1
      have sr := h3 r (by omega)
      have kv : kd_ v r = 18 := by rw [sr.1]; exact kw
      refine z_iload ho dX18_init_14 rfl ?_
      refine z_iload_n ho dX18_init_16 rfl ?_
      refine z_icmp_ge (tgt := 39) ho dX18_init_17 (by decide) (by unfold rng; omega) (by unfold rng; omega) (fun c17 => ?_) (fun c17 => ?_)
      · 
        refine z_aload_n ho dX18_init_39 rfl ?_
        refine z_iload_n ho dX18_init_40 rfl ?_
        refine pX18_13 ho hin dX18_init_41 kv  ?_
        refine z_aload_n ho dX18_init_44 rfl ?_
        refine z_iconst ho dX18_init_45 ?_
        refine pX18_17 ho hin dX18_init_46 kv  ?_
        refine r_V ho dX18_init_49 (Nat.le_refl _) (Nat.le_refl _) ?_
        have e2 : rv_ (wI_ (wI_ v r 0 (T.length : Int)) r 1 0) r 2 = r + 1 := by
          show rv_ v r 2 = r + 1
          rw [sr.2.2.2]; exact hw6
        refine ⟨⟨kv, ?_, hT, Or.inl ⟨by rw [e2]; omega, by rw [iv_wI, if_pos ⟨rfl, rfl⟩], by rw [e2]; exact h4, by rw [e2]; exact h5, by rw [e2]; omega, ?_, hch⟩⟩, by rw [iv_wI, if_pos ⟨rfl, rfl⟩], ?_, fun b hb => ?_⟩
        · rw [iv_wI, if_neg (by omega), iv_wI, if_pos ⟨rfl, rfl⟩]
        · rw [e2]
          exact h2.same (fun i => by rw [iv_wI, if_neg (by omega), iv_wI, if_neg (by omega)])
        · show sz_ v = r + 2
          rw [h6, hw2]
        · exact (((hw3 b (by omega) (by omega)).tr (h3 b (by omega))).tr (Sm.wI (by omega))).tr (Sm.wI (by omega))
      · omega
    | cons c C ih =>
      intro A v h1 h2 h3 h4 h5 h6 h7
      have hlen : T.length = A.length + (C.length + 1) := by rw [h1]; simp
      have sr := h3 r (by omega)
      have sa := h3 a (by omega)
      have swa := hw3 a nar (by omega)
      have kv : kd_ v r = 18 := by rw [sr.1]; exact kw
      have e2 : rv_ v r 2 = r + 1 := by rw [sr.2.2.2]; exact hw6
      have ec : iv_ v a (off + (A.length : Int)) = c := by rw [sa.2.2.1, swa.2.2.1]; exact hA A.length c (by rw [h1]; simp)
      have hcr := hch c (by rw [h1]; simp)
      refine z_iload ho dX18_init_14 rfl ?_
      refine z_iload_n ho dX18_init_16 rfl ?_
      refine z_icmp_ge (tgt := 39) ho dX18_init_17 (by decide) (by unfold rng; omega) (by unfold rng; omega) (fun c17 => ?_) (fun c17 => ?_)
      · omega
      · 
        refine z_aload_n ho dX18_init_20 rfl ?_
        refine gX18_7 ho dX18_init_21 kv ?_
        rw [e2]
        refine z_iload ho dX18_init_24 rfl ?_
        refine z_aload_n ho dX18_init_26 rfl ?_
        refine z_iload_n ho dX18_init_27 rfl ?_
        refine z_iload ho dX18_init_28 rfl ?_
        refine z_iadd ho dX18_init_30 ?_
        refine z_cald ho dX18_init_31 (by rw [sa.1, swa.1]; exact ka) (by omega) (by rw [sa.2.1, swa.2.1]; omega) ?_
        rw [ec]
        refine z_cast ho dX18_init_32 h4 (by omega) (by omega) hcr.1 hcr.2 ?_
        refine z_iinc ho dX18_init_33 rfl rfl ?_
        refine z_goto (tgt := 14) ho dX18_init_36 (by decide) ?_
        have := ih (A ++ [c]) _ (by rw [h1]; simp) (PL.snoc (i := (A.length : Int)) (x := c) h2 rfl) (fun b hb => (h3 b hb).tr (Sm.wI hb)) h4 h5 h6 h7
        rw [List.length_append] at this
        exact this
  exact key T [] w rfl (PL.nil _ _) (fun b _ => Sm.rf w b) hw4.1 hw4.2 rfl hw10
theorem c_Rope_init_2 (l : Launch) (u : Mem) {E n r a b : Nat} {A B : List Int} (kr : kd_ u r = 18) (hr : ∀ i, rv_ u r i = 0) (ha : RT E u n a A) (hb : RT E u n b B) (hn : n ≤ 200) (hl : A.length + B.length ≤ 240) : Mt_ l yX18_init_2 cX18_init_2 3 none 1 0 0 [aR r, aR a, aR b] u (qV fun v => RT E v (n + 1) r (A ++ B) ∧ iv_ v r 1 = 1 + max (iv_ u a 1) (iv_ u b 1) ∧ sz_ v = sz_ u ∧ ∀ c, c ≠ r → Sm u v c) := by
  refine Mt_of (by decide) (Nat.le_of_ble_eq_true rfl) (fun X ho hX hN hI => ?_)
  subst hX
  have hin : In_ X := hI rfl
  show Z X 0 [some (aR r), some (aR a), some (aR b)] [] u 0 0
  refine z_wf (fun hw => ?_)
  have hr0 := (hw.1 r (by omega)).2
  have fA := ha.kd
  have fB := hb.kd
  have dA := (RT.chars _ _ _ ha).2
  have dB := (RT.chars _ _ _ hb).2
  have nea : a ≠ r := fun z => by
    subst z
    cases n with
    | zero => exact ha.elim
    | succ n =>
      rcases ha.2.2.2 with q | ⟨-, -, A', B', -, q, -⟩
      · exact q.1 (hr 2)
      · have := q.kd.1
        rw [hr 3] at this
        have := (hw.1 0 (by omega)).2
        exact this rfl
  have neb : b ≠ r := fun z => by
    subst z
    cases n with
    | zero => exact hb.elim
    | succ n =>
      rcases hb.2.2.2 with q | ⟨-, -, A', B', -, q, -⟩
      · exact q.1 (hr 2)
      · have := q.kd.1
        rw [hr 3] at this
        have := (hw.1 0 (by omega)).2
        exact this rfl
  generalize hu1 : wR_ (wR_ u r 3 a) r 4 b = u1
  have S1 : ∀ c, c ≠ r → Sm u u1 c := fun c hc => by rw [← hu1]; exact (Sm.wR hc).tr (Sm.wR hc)
  have k1 : kd_ u1 r = 18 := by rw [← hu1]; exact kr
  refine z_aload_n ho dX18_init_2_0 rfl ?_
  refine kX18_1 ho hN dX18_init_2_1 hr0 (Nat.le_of_ble_eq_true rfl) (Nat.le_of_ble_eq_true rfl) ?_
  refine z_aload_n ho dX18_init_2_4 rfl ?_
  refine z_aload_n ho dX18_init_2_5 rfl ?_
  refine pX18_20 ho dX18_init_2_6 kr  ?_
  refine z_aload_n ho dX18_init_2_9 rfl ?_
  refine z_aload_n ho dX18_init_2_10 rfl ?_
  refine pX18_24 ho dX18_init_2_11 kr  ?_
  rw [hu1]
  refine z_aload_n ho dX18_init_2_14 rfl ?_
  refine z_aload_n ho dX18_init_2_15 rfl ?_
  refine gX18_13 ho dX18_init_2_16 (by rw [(S1 a nea).1]; exact fA.1) ?_
  rw [(S1 a nea).2.2.1, fA.2.1]
  refine z_aload_n ho dX18_init_2_19 rfl ?_
  refine gX18_13 ho dX18_init_2_20 (by rw [(S1 b neb).1]; exact fB.1) ?_
  rw [(S1 b neb).2.2.1, fB.2.1]
  refine z_iadd ho dX18_init_2_23 ?_
  refine pX18_13 ho hin dX18_init_2_24 k1  ?_
  refine z_aload_n ho dX18_init_2_27 rfl ?_
  refine z_iconst ho dX18_init_2_28 ?_
  refine z_aload_n ho dX18_init_2_29 rfl ?_
  refine gX18_17 ho dX18_init_2_30 (by rw [kd_wI, (S1 a nea).1]; exact fA.1) ?_
  refine z_aload_n ho dX18_init_2_33 rfl ?_
  refine gX18_17 ho dX18_init_2_34 (by rw [kd_wI, (S1 b neb).1]; exact fB.1) ?_
  have ia : ∀ x, iv_ (wI_ u1 r 0 x) a 1 = iv_ u a 1 := fun x => by rw [iv_wI, if_neg (fun z => nea z.1), (S1 a nea).2.2.1]
  have ib : ∀ x, iv_ (wI_ u1 r 0 x) b 1 = iv_ u b 1 := fun x => by rw [iv_wI, if_neg (fun z => neb z.1), (S1 b neb).2.2.1]
  rw [ia, ib]
  refine z_mmax ho hN q1213 dX18_init_2_37 (by unfold rng; omega) (by unfold rng; omega) (Nat.le_of_ble_eq_true rfl) (Nat.le_of_ble_eq_true rfl) (Nat.le_of_ble_eq_true rfl) (Nat.le_of_ble_eq_true rfl) ?_
  refine z_iadd ho dX18_init_2_40 ?_
  refine pX18_17 ho hin dX18_init_2_41 k1  ?_
  refine r_V ho dX18_init_2_44 (Nat.le_of_ble_eq_true rfl) (Nat.le_of_ble_eq_true rfl) ?_
  generalize hv : wI_ (wI_ u1 r 0 ((A.length : Int) + B.length)) r 1 (1 + max (iv_ u a 1) (iv_ u b 1)) = v
  have S : ∀ c, c ≠ r → Sm u v c := fun c hc => by rw [← hv]; exact ((S1 c hc).tr (Sm.wI hc)).tr (Sm.wI hc)
  have r2 : rv_ v r 2 = 0 := by rw [← hv, ← hu1, rv_wI, rv_wI, rv_wR, if_neg (by omega), rv_wR, if_neg (by omega)]; exact hr 2
  have r3 : rv_ v r 3 = a := by rw [← hv, ← hu1, rv_wI, rv_wI, rv_wR, if_neg (by omega), rv_wR, if_pos ⟨rfl, rfl⟩]
  have r4 : rv_ v r 4 = b := by rw [← hv, ← hu1, rv_wI, rv_wI, rv_wR, if_pos ⟨rfl, rfl⟩]
  have i1 : iv_ v r 1 = 1 + max (iv_ u a 1) (iv_ u b 1) := by rw [← hv, iv_wI, if_pos ⟨rfl, rfl⟩]
  have i0 : iv_ v r 0 = (A.length : Int) + B.length := by rw [← hv, iv_wI, if_neg (by omega), iv_wI, if_pos ⟨rfl, rfl⟩]
  have kv : kd_ v r = 18 := by rw [← hv]; exact k1
  -- no part of a or b is r
  have fr : ∀ (n c : Nat) (C : List Int), RT E u n c C → c ≠ r ∧ RT E v n c C := by
    intro n
    induction n with
    | zero => intro c C h; exact h.elim
    | succ n ih =>
      intro c C h
      have hne : c ≠ r := fun z => by
        subst z
        rcases h.2.2.2 with q | ⟨-, -, A', B', -, q, -⟩
        · exact q.1 (hr 2)
        · have := q.kd.1
          rw [hr 3] at this
          have := (hw.1 0 (by omega)).2
          exact this rfl
      have s := S c hne
      refine ⟨hne, ?_⟩
      obtain ⟨h1, h2, h3, h | ⟨h4, h5, A', B', h6, hA, hB⟩⟩ := h
      · obtain ⟨c1, c2, c3, c4, c5, c6, c7⟩ := h
        have t := S (rv_ u c 2) (fun z => by rw [z] at c3; omega)
        exact ⟨by rw [s.1]; exact h1, by rw [s.2.2.1]; exact h2, h3, Or.inl ⟨by rw [s.2.2.2]; exact c1, by rw [s.2.2.1]; exact c2, by rw [s.2.2.2, t.1]; exact c3, by rw [s.2.2.2, t.2.1]; exact c4, by rw [s.2.2.2]; exact c5, by rw [s.2.2.2]; exact c6.same t.2.2.1, c7⟩⟩
      · obtain ⟨nA, gA⟩ := ih _ _ hA
        obtain ⟨nB, gB⟩ := ih _ _ hB
        exact ⟨by rw [s.1]; exact h1, by rw [s.2.2.1]; exact h2, h3, Or.inr ⟨by rw [s.2.2.2]; exact h4, by rw [s.2.2.1, s.2.2.2, s.2.2.2, (S _ nA).2.2.1, (S _ nB).2.2.1]; exact h5, A', B', h6, by rw [s.2.2.2]; exact gA, by rw [s.2.2.2]; exact gB⟩⟩
  refine ⟨⟨kv, by rw [i0]; simp, fun z => fA.2.2 (List.append_eq_nil_iff.mp z).1, Or.inr ⟨r2, ?_, A, B, rfl, by rw [r3]; exact (fr _ _ _ ha).2, by rw [r4]; exact (fr _ _ _ hb).2⟩⟩, i1, by rw [← hv, ← hu1]; rfl, S⟩
  rw [i1, r3, r4, (S a nea).2.2.1, (S b neb).2.2.1]
