set_option maxRecDepth 100000
/-! ===== RowFan ===== -/
/-- the pairs lie in two arrays from off on -/
def Arr (v : Mem) (a b : Nat) (off : Nat) (L : List (Int × Nat)) : Prop := ∀ (j : Nat) x, L[j]? = some x → iv_ v a ((off + j : Nat) : Int) = x.1 ∧ rv_ v b ((off + j : Nat) : Int) = x.2
theorem Arr.nil (v : Mem) (a b off : Nat) : Arr v a b off [] := fun j x h => by simp at h
theorem Arr.app {v : Mem} {a b off : Nat} {A B : List (Int × Nat)} : Arr v a b off (A ++ B) ↔ Arr v a b off A ∧ Arr v a b (off + A.length) B := by
  constructor
  · intro h
    refine ⟨fun j x hj => h j x ?_, fun j x hj => ?_⟩
    · rw [List.getElem?_append_left (by have := List.getElem?_eq_some_iff.mp hj; exact this.1)]; exact hj
    · have := h (A.length + j) x (by rw [List.getElem?_append_right (by omega)]; simpa using hj)
      rw [← Nat.add_assoc] at this
      exact this
  · rintro ⟨h1, h2⟩ j x hj
    by_cases hlt : j < A.length
    · rw [List.getElem?_append_left hlt] at hj
      exact h1 j x hj
    · rw [List.getElem?_append_right (by omega)] at hj
      have := h2 (j - A.length) x hj
      rw [show off + A.length + (j - A.length) = off + j by omega] at this
      exact this
theorem Arr.cons {v : Mem} {a b off : Nat} {x : Int × Nat} {B : List (Int × Nat)} : Arr v a b off (x :: B) ↔ (iv_ v a (off : Int) = x.1 ∧ rv_ v b (off : Int) = x.2) ∧ Arr v a b (off + 1) B := by
  constructor
  · intro h
    refine ⟨h 0 x rfl, fun j y hj => ?_⟩
    have := h (j + 1) y hj
    rw [show off + (j + 1) = off + 1 + j by omega] at this
    exact this
  · rintro ⟨h1, h2⟩ j y hj
    cases j with
    | zero => rw [List.getElem?_cons_zero] at hj; cases hj; exact h1
    | succ j =>
      have := h2 j y hj
      rw [show off + 1 + j = off + (j + 1) by omega] at this
      exact this
theorem Arr.wI {v : Mem} {a b off a' : Nat} {L : List (Int × Nat)} {i y : Int} (h : Arr v a b off L) (hi : a' ≠ a ∨ i < off ∨ (off + L.length : Int) ≤ i) : Arr (wI_ v a' i y) a b off L := fun j x hj => by
  have hlt := (List.getElem?_eq_some_iff.mp hj).1
  have := h j x hj
  rw [iv_wI, if_neg (by omega)]
  exact this
theorem Arr.wR {v : Mem} {a b off b' : Nat} {L : List (Int × Nat)} {i : Int} {y : Nat} (h : Arr v a b off L) (hi : b' ≠ b ∨ i < off ∨ (off + L.length : Int) ≤ i) : Arr (wR_ v b' i y) a b off L := fun j x hj => by
  have hlt := (List.getElem?_eq_some_iff.mp hj).1
  have := h j x hj
  rw [rv_wR, if_neg (by omega)]
  exact this
theorem Arr.same {v v' : Mem} {a b off : Nat} {L : List (Int × Nat)} (h : Arr v a b off L) (h1 : Sm v v' a) (h2 : Sm v v' b) : Arr v' a b off L := fun j x hj => by
  rw [h1.2.2.1, h2.2.2.2]; exact h j x hj
/-- the twigs of pairs are twigs -/
def Tk (u : Mem) (xs : List (Int × Nat)) : Prop := ∀ x ∈ xs, kd_ u x.2 = 6
def F8 (u : Mem) (f : Nat) (xs : List (Int × Nat)) : Prop := kd_ u f = 8 ∧ kd_ u (rv_ u f 1) = 100 ∧ kd_ u (rv_ u f 2) = 105 ∧ (ln_ u (rv_ u f 1) = 4 ∨ ln_ u (rv_ u f 1) = 16) ∧ ln_ u (rv_ u f 2) = ln_ u (rv_ u f 1) ∧ iv_ u f 0 = xs.length ∧ (xs.length : Int) ≤ ln_ u (rv_ u f 1) ∧ Srt xs ∧ Arr u (rv_ u f 1) (rv_ u f 2) 0 xs
/-- the cells of a fan -/
def fpF (u : Mem) (f : Nat) : List Nat := [f, rv_ u f 1, rv_ u f 2]
theorem c_F8_get (l : Launch) (u : Mem) {f : Nat} {b : Int} {xs : List (Int × Nat)} (hF : F8 u f xs) (h0 : 0 ≤ b) (h1 : b < 256) : Mt_ l yX8_get cX8_get 3 (some (.object "KeyHall$Twig")) 0 0 0 [aR f, aI b] u (qR fun r u' => u = u' ∧ r = lk b xs) := by
  obtain ⟨kf, ka, kb, la, lb, hs, hle, hsr, harr⟩ := hF
  refine Mt_of (by decide) (Nat.le_of_ble_eq_true rfl) (fun X ho hX hN hI => ?_)
  subst hX
  show Z X 0 [some (aR f), some (aI b), none] [] u 0 0
  refine z_iconst ho dX8_get_0 ?_
  refine z_istore_n ho dX8_get_1 (Nat.le_of_ble_eq_true rfl) rfl ?_
  have key : ∀ (B A : List (Int × Nat)), xs = A ++ B → lk b xs = lk b B → Z X 2 [some (aR f), some (aI b), some (aI (A.length : Int))] [] u 0 0 := by
    intro B
    induction B with
    | nil =>
      intro A hx hl
      have hlen : xs.length = A.length := by rw [hx]; simp
      refine z_iload_n ho dX8_get_2 rfl ?_
      refine z_aload_n ho dX8_get_3 rfl ?_
      refine gX8_21 ho dX8_get_4 kf ?_
      refine z_icmp_ge (tgt := 33) ho dX8_get_7 (by decide) (by unfold rng; omega) (by unfold rng; omega) (fun c7 => ?_) (fun c7 => ?_)
      · 
        refine z_null ho dX8_get_33 ?_
        refine r_R ho dX8_get_34 (Nat.le_of_ble_eq_true rfl) (Nat.le_of_ble_eq_true rfl) ?_
        exact ⟨rfl, hl.symm⟩
      · rw [hs] at c7; omega
    | cons x B ih =>
      intro A hx hl
      have hlen : xs.length = A.length + B.length + 1 := by rw [hx]; simp; omega
      rw [hx] at harr
      have hx1 := (Arr.cons.mp (Arr.app.mp harr).2).1
      rw [Nat.zero_add] at hx1
      have hxr := hsr.2 x (by rw [hx]; simp)
      refine z_iload_n ho dX8_get_2 rfl ?_
      refine z_aload_n ho dX8_get_3 rfl ?_
      refine gX8_21 ho dX8_get_4 kf ?_
      refine z_icmp_ge (tgt := 33) ho dX8_get_7 (by decide) (by unfold rng; omega) (by unfold rng; omega) (fun c7 => ?_) (fun c7 => ?_)
      · rw [hs] at c7; omega
      · 
        refine z_aload_n ho dX8_get_10 rfl ?_
        refine gX8_9 ho dX8_get_11 kf ?_
        refine z_iload_n ho dX8_get_14 rfl ?_
        refine z_iald ho dX8_get_15 ka (by omega) (by omega) ?_
        refine z_iload_n ho dX8_get_16 rfl ?_
        refine z_icmp_ne (tgt := 27) ho dX8_get_17 (by decide) (by rw [hx1.1]; unfold rng; omega) (by unfold rng; omega) (fun c17 => ?_) (fun c17 => ?_)
        · 
          refine z_iinc ho dX8_get_27 rfl rfl ?_
          refine z_goto (tgt := 2) ho dX8_get_30 (by decide) ?_
          rw [hx1.1] at c17
          have := ih (A ++ [x]) (by rw [hx]; simp) (by rw [hl]; show (if x.1 = b then _ else _) = _; rw [if_neg c17])
          rw [List.length_append] at this
          exact this
        · 
          refine z_aload_n ho dX8_get_20 rfl ?_
          refine gX8_17 ho dX8_get_21 kf ?_
          refine z_iload_n ho dX8_get_24 rfl ?_
          refine z_aald ho dX8_get_25 (by decide) kb (by omega) (by omega) ?_
          refine r_R ho dX8_get_26 (Nat.le_of_ble_eq_true rfl) (Nat.le_of_ble_eq_true rfl) ?_
          rw [hx1.1] at c17
          refine ⟨rfl, ?_⟩
          rw [hl, hx1.2]
          show _ = (if x.1 = b then _ else _)
          rw [if_pos c17]
  exact key xs [] rfl rfl
theorem c_F8_from (l : Launch) (u : Mem) {f : Nat} {b : Int} {xs : List (Int × Nat)} (hF : F8 u f xs) (h0 : 0 ≤ b) (h1 : b ≤ 256) : Mt_ l yX8_from cX8_from 3 (some .int) 0 0 0 [aR f, aI b] u (qI fun r u' => u = u' ∧ Frm b xs r) := by
  obtain ⟨kf, ka, kb, la, lb, hs, hle, hsr, harr⟩ := hF
  refine Mt_of (by decide) (Nat.le_of_ble_eq_true rfl) (fun X ho hX hN hI => ?_)
  subst hX
  show Z X 0 [some (aR f), some (aI b), none] [] u 0 0
  refine z_iconst ho dX8_from_0 ?_
  refine z_istore_n ho dX8_from_1 (Nat.le_of_ble_eq_true rfl) rfl ?_
  have key : ∀ (B A : List (Int × Nat)), xs = A ++ B → (∀ y ∈ A, y.1 < b) → Z X 2 [some (aR f), some (aI b), some (aI (A.length : Int))] [] u 0 0 := by
    intro B
    induction B with
    | nil =>
      intro A hx hl
      have hlen : xs.length = A.length := by rw [hx]; simp
      refine z_iload_n ho dX8_from_2 rfl ?_
      refine z_aload_n ho dX8_from_3 rfl ?_
      refine gX8_21 ho dX8_from_4 kf ?_
      refine z_icmp_ge (tgt := 33) ho dX8_from_7 (by decide) (by unfold rng; omega) (by unfold rng; omega) (fun c7 => ?_) (fun c7 => ?_)
      · 
        refine z_iconst ho dX8_from_33 ?_
        refine r_I ho dX8_from_34 (Nat.le_of_ble_eq_true rfl) (Nat.le_of_ble_eq_true rfl) ?_
        exact ⟨rfl, Or.inl ⟨rfl, by rw [hx]; simpa using hl⟩⟩
      · rw [hs] at c7; omega
    | cons x B ih =>
      intro A hx hl
      have hlen : xs.length = A.length + B.length + 1 := by rw [hx]; simp; omega
      rw [hx] at harr
      have hx1 := (Arr.cons.mp (Arr.app.mp harr).2).1
      rw [Nat.zero_add] at hx1
      have hxr := hsr.2 x (by rw [hx]; simp)
      refine z_iload_n ho dX8_from_2 rfl ?_
      refine z_aload_n ho dX8_from_3 rfl ?_
      refine gX8_21 ho dX8_from_4 kf ?_
      refine z_icmp_ge (tgt := 33) ho dX8_from_7 (by decide) (by unfold rng; omega) (by unfold rng; omega) (fun c7 => ?_) (fun c7 => ?_)
      · rw [hs] at c7; omega
      · 
        refine z_aload_n ho dX8_from_10 rfl ?_
        refine gX8_9 ho dX8_from_11 kf ?_
        refine z_iload_n ho dX8_from_14 rfl ?_
        refine z_iald ho dX8_from_15 ka (by omega) (by omega) ?_
        refine z_iload_n ho dX8_from_16 rfl ?_
        refine z_icmp_lt (tgt := 27) ho dX8_from_17 (by decide) (by rw [hx1.1]; unfold rng; omega) (by unfold rng; omega) (fun c17 => ?_) (fun c17 => ?_)
        · 
          refine z_iinc ho dX8_from_27 rfl rfl ?_
          refine z_goto (tgt := 2) ho dX8_from_30 (by decide) ?_
          rw [hx1.1] at c17
          have := ih (A ++ [x]) (by rw [hx]; simp) (fun y hy => by
            rcases List.mem_append.mp hy with q | q
            · exact hl y q
            · rw [List.mem_singleton.mp q]; omega)
          rw [List.length_append] at this
          exact this
        · 
          refine z_aload_n ho dX8_from_20 rfl ?_
          refine gX8_9 ho dX8_from_21 kf ?_
          refine z_iload_n ho dX8_from_24 rfl ?_
          refine z_iald ho dX8_from_25 ka (by omega) (by omega) ?_
          refine r_I ho dX8_from_26 (Nat.le_of_ble_eq_true rfl) (Nat.le_of_ble_eq_true rfl) ?_
          rw [hx1.1] at c17 ⊢
          exact ⟨rfl, Or.inr ⟨A, x, B, hx, rfl, by omega, hl⟩⟩
  exact key xs [] rfl (fun y h => by simp at h)
theorem c_F8_upTo (l : Launch) (u : Mem) {f : Nat} {b : Int} {xs : List (Int × Nat)} (hF : F8 u f xs) (h0 : -1 ≤ b) (h1 : b ≤ 256) : Mt_ l yX8_upTo cX8_upTo 3 (some .int) 0 0 0 [aR f, aI b] u (qI fun r u' => u = u' ∧ Upt b xs r) := by
  obtain ⟨kf, ka, kb, la, lb, hs, hle, hsr, harr⟩ := hF
  refine Mt_of (by decide) (Nat.le_of_ble_eq_true rfl) (fun X ho hX hN hI => ?_)
  subst hX
  show Z X 0 [some (aR f), some (aI b), none] [] u 0 0
  refine z_aload_n ho dX8_upTo_0 rfl ?_
  refine gX8_21 ho dX8_upTo_1 kf ?_
  refine z_iconst ho dX8_upTo_4 ?_
  refine z_isub ho dX8_upTo_5 ?_
  refine z_istore_n ho dX8_upTo_6 (Nat.le_of_ble_eq_true rfl) rfl ?_
  rw [hs]
  have key : ∀ (n : Nat) (A B : List (Int × Nat)), A.length = n → xs = A ++ B → (∀ y ∈ B, b < y.1) → Z X 7 [some (aR f), some (aI b), some (aI ((A.length : Int) - 1))] [] u 0 0 := by
    intro n
    induction n with
    | zero =>
      intro A B hn hx hl
      obtain rfl := List.eq_nil_of_length_eq_zero hn
      refine z_iload_n ho dX8_upTo_7 rfl ?_
      refine z_if_lt (tgt := 34) ho dX8_upTo_8 (by decide) (by unfold rng; omega) (fun c8 => ?_) (fun c8 => ?_)
      · 
        refine z_iconst ho dX8_upTo_34 ?_
        refine r_I ho dX8_upTo_35 (Nat.le_of_ble_eq_true rfl) (Nat.le_of_ble_eq_true rfl) ?_
        exact ⟨rfl, Or.inl ⟨rfl, by rw [hx]; simpa using hl⟩⟩
      · simp at c8
    | succ n ih =>
      intro A B hn hx hl
      rcases List.eq_nil_or_concat A with rfl | ⟨A', x, hA⟩
      · simp at hn
      · rw [List.concat_eq_append] at hA
        subst hA
        simp only [List.length_append, List.length_singleton] at hn
        have hlen : xs.length = A'.length + B.length + 1 := by rw [hx]; simp; omega
        rw [hx] at harr
        have hx1 := (Arr.cons.mp (Arr.app.mp (Arr.app.mp harr).1).2).1
        rw [Nat.zero_add] at hx1
        have hxr := hsr.2 x (by rw [hx]; simp)
        have e : (((A' ++ [x]).length : Int) - 1) = (A'.length : Int) := by simp
        rw [e]
        refine z_iload_n ho dX8_upTo_7 rfl ?_
        refine z_if_lt (tgt := 34) ho dX8_upTo_8 (by decide) (by unfold rng; omega) (fun c8 => ?_) (fun c8 => ?_)
        · omega
        · 
          refine z_aload_n ho dX8_upTo_11 rfl ?_
          refine gX8_9 ho dX8_upTo_12 kf ?_
          refine z_iload_n ho dX8_upTo_15 rfl ?_
          refine z_iald ho dX8_upTo_16 ka (by omega) (by omega) ?_
          refine z_iload_n ho dX8_upTo_17 rfl ?_
          refine z_icmp_gt (tgt := 28) ho dX8_upTo_18 (by decide) (by rw [hx1.1]; unfold rng; omega) (by unfold rng; omega) (fun c18 => ?_) (fun c18 => ?_)
          · 
            refine z_iinc ho dX8_upTo_28 rfl rfl ?_
            refine z_goto (tgt := 7) ho dX8_upTo_31 (by decide) ?_
            rw [hx1.1] at c18
            exact ih A' (x :: B) (by omega) (by rw [hx]; simp) (fun y hy => by
              rcases List.mem_cons.mp hy with rfl | q
              · omega
              · exact hl y q)
          · 
            refine z_aload_n ho dX8_upTo_21 rfl ?_
            refine gX8_9 ho dX8_upTo_22 kf ?_
            refine z_iload_n ho dX8_upTo_25 rfl ?_
            refine z_iald ho dX8_upTo_26 ka (by omega) (by omega) ?_
            refine r_I ho dX8_upTo_27 (Nat.le_of_ble_eq_true rfl) (Nat.le_of_ble_eq_true rfl) ?_
            rw [hx1.1] at c18 ⊢
            exact ⟨rfl, Or.inr ⟨A', x, B, by rw [hx]; simp, rfl, by omega, hl⟩⟩
  exact key xs.length xs [] rfl (by simp) (fun y h => by simp at h)
theorem c_X7_init (l : Launch) (u : Mem) {a : Nat} (ha : a ≠ 0) : Mt_ l yX7_init cX7_init 1 none 1 0 0 [aR a] u (qV fun u' => u = u') := by
  refine Mt_of (by decide) (Nat.le_of_ble_eq_true rfl) (fun X ho hX hN hI => ?_)
  subst hX
  have hin : In_ X := hI rfl
  show Z X 0 [some (aR a)] [] u 0 0
  refine z_aload_n ho dX7_init_0 rfl ?_
  refine kX7_1 ho hN dX7_init_1 ha (Nat.le_of_ble_eq_true rfl) (Nat.le_of_ble_eq_true rfl) ?_
  refine r_V ho dX7_init_4 (Nat.le_of_ble_eq_true rfl) (Nat.le_of_ble_eq_true rfl) ?_
  exact rfl
theorem c_F8_init (l : Launch) (u : Mem) {f : Nat} {n : Int} (hk : kd_ u f = 8) (hn : n = 4 ∨ n = 16) (hz : sz_ u = f + 1) (h0 : ∀ i, iv_ u f i = 0) : Mt_ l yX8_init cX8_init 2 none 2 2 32 [aR f, aI n] u (qV fun u' => F8 u' f [] ∧ rv_ u' f 1 = f + 1 ∧ rv_ u' f 2 = f + 2 ∧ ln_ u' (f + 1) = n ∧ sz_ u' = sz_ u + 2 ∧ ∀ a, a < f → Sm u u' a) := by
  refine Mt_of (by decide) (Nat.le_of_ble_eq_true rfl) (fun X ho hX hN hI => ?_)
  subst hX
  have hin : In_ X := hI rfl
  show Z X 0 [some (aR f), some (aI n)] [] u 0 0
  refine z_wf (fun hw => ?_)
  have hf0 := (hw.1 f (by omega)).2
  refine z_aload_n ho dX8_init_0 rfl ?_
  refine kX8_3 ho hN (c_X7_init _ _ hf0) dX8_init_1 hf0 (Nat.le_of_ble_eq_true rfl) (Nat.le_of_ble_eq_true rfl) (Nat.le_of_ble_eq_true rfl) (Nat.le_of_ble_eq_true rfl) (fun u1 h1 => ?_)
  obtain rfl := h1
  refine z_aload_n ho dX8_init_4 rfl ?_
  refine z_iload_n ho dX8_init_5 rfl ?_
  refine na_I ho dX8_init_6 (by omega) (by omega) (by omega) (by omega) ?_
  refine pX8_9 ho hin dX8_init_8 (by rw [kd_al, if_neg (by omega)]; exact hk)  ?_
  refine z_aload_n ho dX8_init_11 rfl ?_
  refine z_iload_n ho dX8_init_12 rfl ?_
  refine aX8_15 ho dX8_init_13 (by omega) (by omega) (by omega) (by omega) ?_
  refine pX8_17 ho hin dX8_init_16 (by rw [kd_al, sz_wR, sz_al, if_neg (by omega), kd_wR, kd_al, if_neg (by omega)]; exact hk)  ?_
  refine r_V ho dX8_init_19 (by omega) (by omega) ?_
  refine ⟨⟨?_, ?_, ?_, ?_, ?_, ?_, ?_, Srt.nil, Arr.nil _ _ _ _⟩, ?_, ?_, ?_, ?_, fun a ha => ?_⟩
  all_goals (try simp only [sz_wI, kd_wI, ln_wI, iv_wI, rv_wI, sz_wR, kd_wR, ln_wR, iv_wR, rv_wR, sz_al, kd_al, ln_al, iv_al, rv_al, hz])
  all_goals have e2 : ¬ (f = f + 1 + 1) := by omega
  · simp [e2]; exact hk
  · simp [e2]
  · simp [e2]
  · simp [e2]; omega
  · simp [e2]
  · simp [e2, h0]
  · simp [e2]; omega
  · simp [e2]
  · simp [e2]
  · simp [e2]
  · exact (((Sm.al (by omega)).tr (Sm.wR (by omega))).tr (Sm.al (by rw [sz_wR, sz_al]; omega))).tr (Sm.wR (by omega))
/-- put into a fan that has room -/
theorem c_F8_put_room (l : Launch) (u : Mem) {f t : Nat} {b : Int} {xs : List (Int × Nat)} (hF : F8 u f xs) (hb : ∀ x ∈ xs, x.1 ≠ b) (h0 : 0 ≤ b) (h1 : b < 256) (ht : kd_ u t = 6) (htk : Tk u xs) (hroom : (xs.length : Int) < ln_ u (rv_ u f 1)) : Mt_ l yX8_put cX8_put 4 (some (.object "KeyHall$Fan")) 0 0 0 [aR f, aI b, aR t] u (qR fun r u' => r = f ∧ F8 u' f (ins b t xs) ∧ rv_ u' f 1 = rv_ u f 1 ∧ rv_ u' f 2 = rv_ u f 2 ∧ Fr (fun a _ => a ∈ fpF u f) u u' ∧ sz_ u' = sz_ u) := by
  obtain ⟨kf, ka, kb, la, lb, hs, hle, hsr, harr⟩ := hF
  refine Mt_of (by decide) (Nat.le_of_ble_eq_true rfl) (fun X ho hX hN hI => ?_)
  subst hX
  show Z X 0 [some (aR f), some (aI b), some (aR t), none] [] u 0 0
  refine z_wf (fun hw => ?_)
  have ht0 : t ≠ 0 := (hw.1 t (by omega)).2
  generalize hA : rv_ u f 1 = a1 at *
  generalize hB : rv_ u f 2 = a2 at *
  have d1 : a1 ≠ a2 := fun e => by rw [e] at ka; omega
  have d2 : f ≠ a1 := fun e => by rw [← e] at ka; omega
  have d3 : f ≠ a2 := fun e => by rw [← e] at kb; omega
  refine z_aload_n ho dX8_put_0 rfl ?_
  refine gX8_21 ho dX8_put_1 kf ?_
  refine z_aload_n ho dX8_put_4 rfl ?_
  refine gX8_9 ho dX8_put_5 kf ?_
  refine z_alen ho dX8_put_8 (by decide) (show kd_ u (rv_ u f 1) = 100 by rw [hA]; exact ka) ?_
  refine z_icmp_ne (tgt := 52) ho dX8_put_9 (by decide) (by rw [hs]; unfold rng; omega) (by rw [hA]; unfold rng; omega) (fun c9 => ?_) (fun c9 => ?_)
  · 
    refine z_aload_n ho dX8_put_52 rfl ?_
    refine gX8_21 ho dX8_put_53 kf ?_
    refine z_istore_n ho dX8_put_56 (Nat.le_of_ble_eq_true rfl) rfl ?_
    rw [hs]
    have facts : ∀ v : Mem, Fr (fun a _ => a = a1 ∨ a = a2) u v → Sm u v f ∧ kd_ v a1 = 100 ∧ kd_ v a2 = 105 ∧ ln_ v a1 = ln_ u a1 ∧ ln_ v a2 = ln_ u a2 ∧ kd_ v f = 8 ∧ rv_ v f 1 = a1 ∧ rv_ v f 2 = a2 ∧ kd_ v t = 6 := by
      intro v hF
      have smf : Sm u v f := (hF.2 f (hw.1 f (by omega)).1).2.2 (by omega)
      have q1 := hF.2 a1 (hw.1 a1 (by omega)).1
      have q2 := hF.2 a2 (hw.1 a2 (by omega)).1
      have q3 := hF.2 t (hw.1 t (by omega)).1
      exact ⟨smf, by rw [q1.1]; exact ka, by rw [q2.1]; exact kb, q1.2.1, q2.2.1, by rw [smf.1]; exact kf, by rw [smf.2.2.2]; exact hA, by rw [smf.2.2.2]; exact hB, by rw [q3.1]; exact ht⟩
    have fin : ∀ (v : Mem) (A B : List (Int × Nat)), xs = A ++ B → (∀ y ∈ A, y.1 < b) → (∀ y ∈ B, b < y.1) → Arr v a1 a2 0 A → Arr v a1 a2 (A.length + 1) B → Fr (fun a _ => a = a1 ∨ a = a2) u v → sz_ v = sz_ u → Z X 107 [some (aR f), some (aI b), some (aR t), some (aI (A.length : Int))] [] v 0 0 := by
      intro v A B hx hlA hl hv1 hv2 hF hz
      obtain ⟨smf, ka', kb', la', lb', kf', r1, r2, kt'⟩ := facts v hF
      have hlen : xs.length = A.length + B.length := by rw [hx]; simp
      refine z_aload_n ho dX8_put_107 rfl ?_
      refine gX8_9 ho dX8_put_108 kf' ?_
      refine z_iload_n ho dX8_put_111 rfl ?_
      refine z_iload_n ho dX8_put_112 rfl ?_
      refine z_iast ho dX8_put_113 (by rw [r1]; exact ka') (by omega) (by rw [r1, la']; omega) ?_
      refine z_aload_n ho dX8_put_114 rfl ?_
      refine gX8_17 ho dX8_put_115 kf' ?_
      refine z_iload_n ho dX8_put_118 rfl ?_
      refine z_aload_n ho dX8_put_119 rfl ?_
      refine z_aast ho dX8_put_120 (Or.inl ⟨rfl, rfl, rfl⟩) (show kd_ (wI_ v (rv_ v f 1) A.length b) (rv_ (wI_ v (rv_ v f 1) A.length b) f 2) = 105 by rw [kd_wI, rv_wI, r2]; exact kb') (by omega) (by rw [ln_wI, rv_wI, r2, lb', lb]; omega) (Or.inr (by rw [kd_wI]; exact kt')) ?_
      refine z_aload_n ho dX8_put_121 rfl ?_
      refine z_dup ho dX8_put_122 rfl ?_
      refine gX8_21 ho dX8_put_123 kf' ?_
      refine z_iconst ho dX8_put_126 ?_
      refine z_iadd ho dX8_put_127 ?_
      refine pX8_21 ho dX8_put_128 kf'  ?_
      refine z_aload_n ho dX8_put_131 rfl ?_
      refine r_R ho dX8_put_132 (Nat.le_of_ble_eq_true rfl) (Nat.le_of_ble_eq_true rfl) ?_
      have e0 : rv_ (wI_ v a1 (A.length : Int) b) f 2 = a2 := r2
      have e1 : iv_ (wR_ (wI_ v a1 (A.length : Int) b) a2 (A.length : Int) t) f 0 = xs.length := by
        rw [iv_wR, iv_wI, if_neg (by omega), smf.2.2.1]; exact hs
      rw [r1, e0, e1]
      have hins : ins b t xs = A ++ (b, t) :: B := by rw [hx]; exact ins_split hlA hl
      generalize hw' : wI_ (wR_ (wI_ v a1 (A.length : Int) b) a2 (A.length : Int) t) f 0 ((xs.length : Int) + 1) = w
      have q1 : rv_ w f 1 = a1 := by rw [← hw', rv_wI, rv_wR, if_neg (by omega)]; exact r1
      have q2 : rv_ w f 2 = a2 := by rw [← hw', rv_wI, rv_wR, if_neg (by omega)]; exact r2
      have kk : ∀ c, kd_ w c = kd_ v c := fun c => by rw [← hw']; rfl
      have ll : ∀ c, ln_ w c = ln_ v c := fun c => by rw [← hw']; rfl
      refine ⟨rfl, ⟨by rw [kk]; exact kf', by rw [q1, kk]; exact ka', by rw [q2, kk]; exact kb', by rw [q1, ll, la']; exact la, by rw [q1, q2, ll, ll, la', lb']; exact lb, ?_, by rw [q1, ll, la', len_ins]; omega, hsr.ins hb h0 h1 ht0, ?_⟩, q1, q2, ?_, by rw [← hw']; exact hz⟩
      · rw [← hw', iv_wI, if_pos ⟨rfl, rfl⟩, len_ins]; omega
      · rw [q1, q2, hins, ← hw']
        refine Arr.app.mpr ⟨?_, Arr.cons.mpr ⟨⟨?_, ?_⟩, ?_⟩⟩
        · exact ((hv1.wI (Or.inr (Or.inr (by omega)))).wR (Or.inr (Or.inr (by omega)))).wI (Or.inl d2)
        · rw [iv_wI, if_neg (by omega), iv_wR, iv_wI, if_pos ⟨rfl, by omega⟩]
        · rw [rv_wI, rv_wR, if_pos ⟨rfl, by omega⟩]
        · rw [Nat.zero_add]
          exact ((hv2.wI (Or.inr (Or.inl (by omega)))).wR (Or.inr (Or.inl (by omega)))).wI (Or.inl d2)
      · have hF' : Fr (fun a _ => a ∈ fpF u f) u v := hF.mono (fun a _ q => by
          unfold fpF
          rw [hA, hB]
          rcases q with q | q <;> simp [q])
        rw [← hw']
        exact ((hF'.nI (Or.inr (by unfold fpF; simp [hA]))).nR (Or.inr (by unfold fpF; simp [hB]))).nI (Or.inr (by unfold fpF; simp))
    have key : ∀ (n : Nat) (v : Mem) (A B : List (Int × Nat)), A.length = n → xs = A ++ B → (∀ y ∈ B, b < y.1) → Arr v a1 a2 0 A → Arr v a1 a2 (A.length + 1) B → Fr (fun a _ => a = a1 ∨ a = a2) u v → sz_ v = sz_ u → Z X 57 [some (aR f), some (aI b), some (aR t), some (aI (A.length : Int))] [] v 0 0 := by
      intro n
      induction n with
      | zero =>
        intro v A B hn hx hl hv1 hv2 hF hz
        obtain rfl := List.eq_nil_of_length_eq_zero hn
        refine z_iload_n ho dX8_put_57 rfl ?_
        refine z_if_le (tgt := 107) ho dX8_put_58 (by decide) (by unfold rng; omega) (fun c58 => ?_) (fun c58 => ?_)
        · exact fin v [] B hx (fun y h => by simp at h) hl hv1 hv2 hF hz
        · simp at c58
      | succ n ih =>
        intro v A B hn hx hl hv1 hv2 hF hz
        obtain ⟨smf, ka', kb', la', lb', kf', r1, r2, kt'⟩ := facts v hF
        rcases List.eq_nil_or_concat A with rfl | ⟨A', x, hA'⟩
        · simp at hn
        rw [List.concat_eq_append] at hA'
        subst hA'
        have hlen : xs.length = A'.length + 1 + B.length := by rw [hx]; simp; omega
        have hxr := hsr.2 x (by rw [hx]; simp)
        have hxb := hb x (by rw [hx]; simp)
        have hx1 := (Arr.cons.mp (Arr.app.mp hv1).2).1
        rw [Nat.zero_add] at hx1
        have el : ((A' ++ [x]).length : Int) = (A'.length : Int) + 1 := by simp
        have el' : (A' ++ [x]).length = A'.length + 1 := by simp
        refine z_iload_n ho dX8_put_57 rfl ?_
        refine z_if_le (tgt := 107) ho dX8_put_58 (by decide) (by unfold rng; omega) (fun c58 => ?_) (fun c58 => ?_)
        · simp at c58; omega
        · have e1 : iv_ v a1 (((A' ++ [x]).length : Int) - 1) = x.1 := by rw [el, show (A'.length : Int) + 1 - 1 = A'.length by omega]; exact hx1.1
          have e2 : rv_ v a2 (((A' ++ [x]).length : Int) - 1) = x.2 := by rw [el, show (A'.length : Int) + 1 - 1 = A'.length by omega]; exact hx1.2
          refine z_aload_n ho dX8_put_61 rfl ?_
          refine gX8_9 ho dX8_put_62 kf' ?_
          refine z_iload_n ho dX8_put_65 rfl ?_
          refine z_iconst ho dX8_put_66 ?_
          refine z_isub ho dX8_put_67 ?_
          refine z_iald ho dX8_put_68 (by rw [r1]; exact ka') (by omega) (by rw [r1, la']; omega) ?_
          refine z_iload_n ho dX8_put_69 rfl ?_
          refine z_icmp_le (tgt := 107) ho dX8_put_70 (by decide) (by rw [r1, e1]; unfold rng; omega) (by unfold rng; omega) (fun c70 => ?_) (fun c70 => ?_)
          · rw [r1, e1] at c70
            refine fin v _ B hx (fun y hy => ?_) hl hv1 hv2 hF hz
            have hp := hsr.1
            rw [hx] at hp
            have hp := (List.pairwise_append.mp (List.pairwise_append.mp hp).1).2.2
            rcases List.mem_append.mp hy with q | q
            · have := hp y q x (by simp)
              omega
            · rw [List.mem_singleton.mp q]; omega
          · rw [r1, e1] at c70
            have kx : kd_ v x.2 = 6 := by
              rw [(hF.2 x.2 (hw.1 x.2 (by have := htk x (by rw [hx]; simp); omega)).1).1]
              exact htk x (by rw [hx]; simp)
            refine z_aload_n ho dX8_put_73 rfl ?_
            refine gX8_9 ho dX8_put_74 kf' ?_
            rw [r1]
            refine z_iload_n ho dX8_put_77 rfl ?_
            refine z_aload_n ho dX8_put_78 rfl ?_
            refine gX8_9 ho dX8_put_79 kf' ?_
            rw [r1]
            refine z_iload_n ho dX8_put_82 rfl ?_
            refine z_iconst ho dX8_put_83 ?_
            refine z_isub ho dX8_put_84 ?_
            refine z_iald ho dX8_put_85 ka' (by omega) (by rw [la']; omega) ?_
            rw [e1]
            refine z_iast ho dX8_put_86 ka' (by omega) (by rw [la']; omega) ?_
            refine z_aload_n ho dX8_put_87 rfl ?_
            refine gX8_17 ho dX8_put_88 kf' ?_
            rw [rv_wI, r2]
            refine z_iload_n ho dX8_put_91 rfl ?_
            refine z_aload_n ho dX8_put_92 rfl ?_
            refine gX8_17 ho dX8_put_93 kf' ?_
            rw [rv_wI, r2]
            refine z_iload_n ho dX8_put_96 rfl ?_
            refine z_iconst ho dX8_put_97 ?_
            refine z_isub ho dX8_put_98 ?_
            refine z_aald ho dX8_put_99 (by decide) kb' (by omega) (by rw [ln_wI, lb', lb]; omega) ?_
            rw [rv_wI, e2]
            refine z_aast ho dX8_put_100 (Or.inl ⟨rfl, rfl, rfl⟩) kb' (by omega) (by rw [ln_wI, lb', lb]; omega) (Or.inr kx) ?_
            refine z_iinc ho dX8_put_101 rfl rfl ?_
            refine z_goto (tgt := 57) ho dX8_put_104 (by decide) ?_
            have hgo := ih (wR_ (wI_ v a1 ((A' ++ [x]).length : Int) x.1) a2 ((A' ++ [x]).length : Int) x.2) A' (x :: B) (by omega) (by rw [hx]; simp) (fun y hy => by
              rcases List.mem_cons.mp hy with rfl | q
              · omega
              · exact hl y q) (((Arr.app.mp hv1).1.wI (Or.inr (Or.inr (by omega)))).wR (Or.inr (Or.inr (by omega)))) (Arr.cons.mpr ⟨⟨by rw [iv_wR, iv_wI, if_pos ⟨rfl, by omega⟩], by rw [rv_wR, if_pos ⟨rfl, by omega⟩]⟩, by
                rw [el'] at hv2
                exact (hv2.wI (Or.inr (Or.inl (by omega)))).wR (Or.inr (Or.inl (by omega)))⟩) ((hF.nI (Or.inr (Or.inl rfl))).nR (Or.inr (Or.inr rfl))) hz
            rw [show (A'.length : Int) = ((A' ++ [x]).length : Int) + -1 by omega] at hgo
            exact hgo
    exact key xs.length u xs [] rfl (by simp) (fun y h => by simp at h) harr (Arr.nil _ _ _ _) (Fr.rf _ u) rfl
  · rw [hs, hA] at c9; omega
