set_option maxRecDepth 100000
/-! ===== BitTree: forks ===== -/
/-- an entry -/
def En (u : Mem) (e : Nat) : Prop := Ky u e ∧ kd_ u e = 14
/-- a tree of forks of depth below n at a: its entries from left to right, its cells -/
def FT (u : Mem) : Nat → Nat → List Nat → List Nat → Prop
  | 0, _, _, _ => False
  | n + 1, a, es, fp => kd_ u a = 15 ∧
    ((∃ e, rv_ u a 3 = e ∧ En u e ∧ es = [e] ∧ fp = [a]) ∨
     (rv_ u a 3 = 0 ∧ 0 ≤ iv_ u a 0 ∧ iv_ u a 0 < 136 ∧ ∃ es1 es2 fp1 fp2, FT u n (rv_ u a 1) es1 fp1 ∧ FT u n (rv_ u a 2) es2 fp2 ∧ es = es1 ++ es2 ∧ fp = a :: (fp1 ++ fp2) ∧ a ∉ fp1 ∧ a ∉ fp2 ∧ (∀ x ∈ fp1, x ∉ fp2) ∧
      (∀ e ∈ es1, bitL (tx u e) (iv_ u a 0) = 0) ∧ (∀ e ∈ es2, bitL (tx u e) (iv_ u a 0) = 1) ∧ (∀ e ∈ es1 ++ es2, ∀ e' ∈ es1 ++ es2, ∀ j, 0 ≤ j → j < iv_ u a 0 → bitL (tx u e) j = bitL (tx u e') j)))
theorem FT.kd {u : Mem} {n a : Nat} {es fp : List Nat} (h : FT u n a es fp) : kd_ u a = 15 := by
  cases n with
  | zero => exact h.elim
  | succ n => exact h.1
theorem En.ne0 {u : Mem} {e : Nat} (hw : Wf u) (h : En u e) : e ≠ 0 := (hw.1 e (by rw [h.2]; decide)).2
theorem FT.mem (u : Mem) : ∀ (n a : Nat) (es fp : List Nat), FT u n a es fp → es ≠ [] ∧ (∀ e ∈ es, En u e) ∧ a ∈ fp ∧ (∀ x ∈ fp, kd_ u x = 15) := by
  intro n
  induction n with
  | zero => intro a es fp h; exact h.elim
  | succ n ih =>
    intro a es fp h
    obtain ⟨hk, h⟩ := h
    rcases h with ⟨e, h1, h2, rfl, rfl⟩ | ⟨-, -, -, es1, es2, fp1, fp2, f1, f2, rfl, rfl, -⟩
    · exact ⟨by simp, fun x hx => by rw [List.mem_singleton.mp hx]; exact h2, by simp, fun x hx => by rw [List.mem_singleton.mp hx]; exact hk⟩
    · obtain ⟨a1, a2, a3, a4⟩ := ih _ _ _ f1
      obtain ⟨b1, b2, b3, b4⟩ := ih _ _ _ f2
      refine ⟨by simp [a1], fun x hx => ?_, by simp, fun x hx => ?_⟩
      · rcases List.mem_append.mp hx with q | q
        · exact a2 x q
        · exact b2 x q
      · rcases List.mem_cons.mp hx with q | q
        · rw [q]; exact hk
        · rcases List.mem_append.mp q with q | q
          · exact a4 x q
          · exact b4 x q
theorem FT.frame {u u' : Mem} : ∀ (n a : Nat) (es fp : List Nat), FT u n a es fp → (∀ x ∈ fp, Sm u u' x) → (∀ e ∈ es, En u' e ∧ tx u' e = tx u e) → FT u' n a es fp := by
  intro n
  induction n with
  | zero => intro a es fp h; exact h.elim
  | succ n ih =>
    intro a es fp h hf he
    obtain ⟨hk, h⟩ := h
    rcases h with ⟨e, h1, h2, rfl, rfl⟩ | ⟨h1, h2, h3, es1, es2, fp1, fp2, f1, f2, rfl, rfl, g1, g2, g3, g4, g5, g6⟩
    · have sa := hf a (by simp)
      exact ⟨by rw [sa.1]; exact hk, Or.inl ⟨e, by rw [sa.2.2.2]; exact h1, (he e (by simp)).1, rfl, rfl⟩⟩
    · have sa := hf a (by simp)
      have hme : ∀ e ∈ es1 ++ es2, tx u' e = tx u e := fun e hm => (he e hm).2
      refine ⟨by rw [sa.1]; exact hk, Or.inr ⟨by rw [sa.2.2.2]; exact h1, by rw [sa.2.2.1]; exact h2, by rw [sa.2.2.1]; exact h3, es1, es2, fp1, fp2, ?_, ?_, rfl, rfl, g1, g2, g3, ?_, ?_, ?_⟩⟩
      · rw [sa.2.2.2]
        exact ih _ _ _ f1 (fun x hx => hf x (by simp [hx])) (fun e hx => he e (by simp [hx]))
      · rw [sa.2.2.2]
        exact ih _ _ _ f2 (fun x hx => hf x (by simp [hx])) (fun e hx => he e (by simp [hx]))
      · intro e hx
        rw [sa.2.2.1, hme e (by simp [hx])]; exact g4 e hx
      · intro e hx
        rw [sa.2.2.1, hme e (by simp [hx])]; exact g5 e hx
      · intro e hx e' hx' j h0 hj
        rw [sa.2.2.1] at hj
        rw [hme e hx, hme e' hx']; exact g6 e hx e' hx' j h0 hj
theorem FT.mono {u : Mem} : ∀ (n m a : Nat) (es fp : List Nat), FT u n a es fp → n ≤ m → FT u m a es fp := by
  intro n
  induction n with
  | zero => intro m a es fp h; exact h.elim
  | succ n ih =>
    intro m a es fp h hm
    obtain ⟨m, rfl⟩ : ∃ k, m = k + 1 := ⟨m - 1, by omega⟩
    obtain ⟨hk, h⟩ := h
    refine ⟨hk, ?_⟩
    rcases h with h | ⟨h1, h2, h3, es1, es2, fp1, fp2, f1, f2, h⟩
    · exact Or.inl h
    · exact Or.inr ⟨h1, h2, h3, es1, es2, fp1, fp2, ih _ _ _ _ f1 (by omega), ih _ _ _ _ f2 (by omega), h⟩
/-- left is less than right -/
theorem FT.sorted {u : Mem} : ∀ (n a : Nat) (es fp : List Nat), FT u n a es fp → es.Pairwise (fun x y => tx u x < tx u y) := by
  intro n
  induction n with
  | zero => intro a es fp h; exact h.elim
  | succ n ih =>
    intro a es fp h
    have hm := FT.mem u _ _ _ _ h
    obtain ⟨hk, h⟩ := h
    rcases h with ⟨e, h1, h2, rfl, rfl⟩ | ⟨h1, h2, h3, es1, es2, fp1, fp2, f1, f2, rfl, rfl, g1, g2, g3, g4, g5, g6⟩
    · simp
    · refine List.pairwise_append.mpr ⟨ih _ _ _ f1, ih _ _ _ f2, fun x hx y hy => ?_⟩
      have ex := hm.2.1 x (by simp [hx])
      have ey := hm.2.1 y (by simp [hy])
      have fd : fdf (tx u x) (tx u y) (iv_ u a 0) := ⟨h2, fun j h0 hj => g6 x (by simp [hx]) y (by simp [hy]) j h0 hj, by rw [g4 x hx, g5 y hy]; decide⟩
      exact (fdf_iff ex.1.Tx ey.1.Tx fd).1.mpr (g4 x hx)
theorem c_Fork_to (l : Launch) (u : Mem) {a : Nat} {b : Int} (ha : kd_ u a = 15) (hb : rng b) : Mt_ l yX15_to cX15_to 2 (some (.object "KeyHall$Fork")) 0 0 0 [aR a, aI b] u (qR fun r u' => u = u' ∧ r = if b = 0 then rv_ u a 1 else rv_ u a 2) := by
  refine Mt_of (by decide) (Nat.le_of_ble_eq_true rfl) (fun X ho hX hN hI => ?_)
  subst hX
  show Z X 0 [some (aR a), some (aI b)] [] u 0 0
  refine z_iload_n ho dX15_to_0 rfl ?_
  refine z_if_ne (tgt := 11) ho dX15_to_1 (by decide) hb (fun c1 => ?_) (fun c1 => ?_)
  · 
    refine z_aload_n ho dX15_to_11 rfl ?_
    refine gX15_21 ho dX15_to_12 ha ?_
    refine r_R ho dX15_to_15 (Nat.le_of_ble_eq_true rfl) (Nat.le_of_ble_eq_true rfl) ?_
    exact ⟨rfl, (if_neg c1).symm⟩
  · 
    refine z_aload_n ho dX15_to_4 rfl ?_
    refine gX15_17 ho dX15_to_5 ha ?_
    refine z_goto (tgt := 15) ho dX15_to_8 (by decide) ?_
    refine r_R ho dX15_to_15 (Nat.le_of_ble_eq_true rfl) (Nat.le_of_ble_eq_true rfl) ?_
    exact ⟨rfl, (if_pos c1).symm⟩
theorem c_Fork_end (l : Launch) (u : Mem) {n a : Nat} {es fp : List Nat} {b : Int} (hf : FT u n a es fp) (hb : b = 0 ∨ b = 1) : Mt_ l yX15_end cX15_end 3 (some (.object "KeyHall$Entry")) 1 0 0 [aR a, aI b] u (qR fun r u' => u = u' ∧ (b = 0 → es.head? = some r) ∧ (b = 1 → es.getLast? = some r)) := by
  refine Mt_of (by decide) (Nat.le_of_ble_eq_true rfl) (fun X ho hX hN hI => ?_)
  subst hX
  show Z X 0 [some (aR a), some (aI b), none] [] u 0 0
  refine z_wf (fun hw => ?_)
  refine z_aload_n ho dX15_end_0 rfl ?_
  refine z_astore_n ho dX15_end_1 (Nat.le_of_ble_eq_true rfl) rfl ?_
  have key : ∀ (n f : Nat) (es' fp' : List Nat), FT u n f es' fp' → (b = 0 → es.head? = es'.head?) → (b = 1 → es.getLast? = es'.getLast?) → Z X 2 [some (aR a), some (aI b), some (aR f)] [] u 0 0 := by
    intro n
    induction n with
    | zero => intro f es' fp' h; exact h.elim
    | succ n ih =>
      intro f es' fp' h h0 h1
      have hm := FT.mem u _ _ _ _ h
      obtain ⟨hk, h⟩ := h
      refine z_aload_n ho dX15_end_2 rfl ?_
      refine gX15_7 ho dX15_end_3 hk ?_
      refine z_ifnonnull (tgt := 18) ho dX15_end_6 (by decide) (fun c6 => ?_) (fun c6 => ?_)
      · 
        refine z_aload_n ho dX15_end_18 rfl ?_
        refine gX15_7 ho dX15_end_19 hk ?_
        refine r_R ho dX15_end_22 (Nat.le_of_ble_eq_true rfl) (Nat.le_of_ble_eq_true rfl) ?_
        rcases h with ⟨e, g1, g2, rfl, rfl⟩ | ⟨g1, -⟩
        · rw [g1]
          exact ⟨rfl, fun hb => by rw [h0 hb]; rfl, fun hb => by rw [h1 hb]; rfl⟩
        · exact absurd g1 c6
      · rcases h with ⟨e, g1, g2, rfl, rfl⟩ | ⟨g1, g2, g3, es1, es2, fp1, fp2, f1, f2, rfl, rfl, -⟩
        · rw [g1] at c6
          exact absurd c6 (g2.ne0 hw)
        · 
          refine z_aload_n ho dX15_end_9 rfl ?_
          refine z_iload_n ho dX15_end_10 rfl ?_
          refine kX15_24 ho hN (c_Fork_to _ _ hk (by unfold rng; omega)) dX15_end_11 (by assumption) (Nat.le_of_ble_eq_true rfl) (Nat.le_of_ble_eq_true rfl) (Nat.le_of_ble_eq_true rfl) (Nat.le_of_ble_eq_true rfl) (fun x11 u11 h11 => ?_)
          obtain ⟨rfl, rfl⟩ := h11
          refine z_astore_n ho dX15_end_14 (Nat.le_of_ble_eq_true rfl) rfl ?_
          refine z_goto (tgt := 2) ho dX15_end_15 (by decide) ?_
          have n1 := (FT.mem u _ _ _ _ f1).1
          have n2 := (FT.mem u _ _ _ _ f2).1
          rcases hb with rfl | rfl
          · rw [if_pos rfl]
            refine ih _ _ _ f1 (fun q => ?_) (fun q => by omega)
            rw [h0 q]
            cases es1 with
            | nil => exact absurd rfl n1
            | cons x l => rfl
          · rw [if_neg (by decide)]
            refine ih _ _ _ f2 (fun q => by omega) (fun q => ?_)
            rw [h1 q, List.getLast?_append]
            cases hl : es2.getLast? with
            | none => exact absurd (List.getLast?_eq_none_iff.mp hl) n2
            | some x => rfl
  exact key n a es fp hf (fun _ => rfl) (fun _ => rfl)
/-- agreement in the first i bits -/
def agr (s t : List Int) (i : Int) : Prop := ∀ j, 0 ≤ j → j < i → bitL s j = bitL t j
theorem c_near (l : Launch) (u : Mem) {n t k : Nat} {es fp : List Nat} (ht : kd_ u t = 4) (hf : FT u n (rv_ u t 2) es fp) (hk : Ky u k) : Mt_ l yX4_near cX4_near 3 (some (.object "KeyHall$Entry")) 1 0 0 [aR t, aR k] u (qR fun r u' => u = u' ∧ r ∈ es ∧ ∀ e ∈ es, ∀ i, agr (tx u e) (tx u k) i → agr (tx u r) (tx u k) i) := by
  refine Mt_of (by decide) (Nat.le_of_ble_eq_true rfl) (fun X ho hX hN hI => ?_)
  subst hX
  show Z X 0 [some (aR t), some (aR k), none] [] u 0 0
  refine z_wf (fun hw => ?_)
  refine z_aload_n ho dX4_near_0 rfl ?_
  refine gX4_7 ho dX4_near_1 ht ?_
  refine z_astore_n ho dX4_near_4 (Nat.le_of_ble_eq_true rfl) rfl ?_
  have key : ∀ (n f : Nat) (es' fp' : List Nat), FT u n f es' fp' → (∀ e ∈ es', e ∈ es) → (∀ e ∈ es, ∀ i, agr (tx u e) (tx u k) i → ∃ e' ∈ es', agr (tx u e') (tx u k) i) → Z X 5 [some (aR t), some (aR k), some (aR f)] [] u 0 0 := by
    intro n
    induction n with
    | zero => intro f es' fp' h; exact h.elim
    | succ n ih =>
      intro f es' fp' h hs hb
      obtain ⟨hkf, h⟩ := h
      refine z_aload_n ho dX4_near_5 rfl ?_
      refine gX4_13 ho dX4_near_6 hkf ?_
      refine z_ifnonnull (tgt := 28) ho dX4_near_9 (by decide) (fun c9 => ?_) (fun c9 => ?_)
      · 
        refine z_aload_n ho dX4_near_28 rfl ?_
        refine gX4_13 ho dX4_near_29 hkf ?_
        refine r_R ho dX4_near_32 (Nat.le_of_ble_eq_true rfl) (Nat.le_of_ble_eq_true rfl) ?_
        rcases h with ⟨e, g1, g2, rfl, rfl⟩ | ⟨g1, -⟩
        · rw [g1]
          refine ⟨rfl, hs e (by simp), fun e' he' i hi => ?_⟩
          obtain ⟨e'', h1, h2⟩ := hb e' he' i hi
          rw [List.mem_singleton.mp h1] at h2
          exact h2
        · exact absurd g1 c9
      · rcases h with ⟨e, g1, g2, rfl, rfl⟩ | ⟨g1, g2, g3, es1, es2, fp1, fp2, f1, f2, rfl, rfl, -, -, -, b1, b2, b3⟩
        · rw [g1] at c9
          exact absurd c9 (g2.ne0 hw)
        · have h01 := bitL_01 (tx u k) (iv_ u f 0)
          refine z_aload_n ho dX4_near_12 rfl ?_
          refine z_aload_n ho dX4_near_13 rfl ?_
          refine z_aload_n ho dX4_near_14 rfl ?_
          refine gX4_19 ho dX4_near_15 hkf ?_
          refine kX4_23 ho hN (c_bit _ _ hk g2 (by omega)) dX4_near_18 hk.1 (Nat.le_of_ble_eq_true rfl) (Nat.le_of_ble_eq_true rfl) (Nat.le_of_ble_eq_true rfl) (Nat.le_of_ble_eq_true rfl) (fun x18 u18 h18 => ?_)
          obtain ⟨rfl, rfl⟩ := h18
          refine kX4_28 ho hN (c_Fork_to _ _ hkf (by unfold rng; omega)) dX4_near_21 (by assumption) (Nat.le_of_ble_eq_true rfl) (Nat.le_of_ble_eq_true rfl) (Nat.le_of_ble_eq_true rfl) (Nat.le_of_ble_eq_true rfl) (fun x21 u21 h21 => ?_)
          obtain ⟨rfl, rfl⟩ := h21
          refine z_astore_n ho dX4_near_24 (Nat.le_of_ble_eq_true rfl) rfl ?_
          refine z_goto (tgt := 5) ho dX4_near_25 (by decide) ?_
          have n1 := (FT.mem u _ _ _ _ f1).1
          have n2 := (FT.mem u _ _ _ _ f2).1
          by_cases hz : bitL (tx u k) (iv_ u f 0) = 0
          · rw [if_pos hz]
            refine ih _ _ _ f1 (fun e he => hs e (by simp [he])) (fun e he i hi => ?_)
            obtain ⟨e', h1, h2⟩ := hb e he i hi
            rcases List.mem_append.mp h1 with q | q
            · exact ⟨e', q, h2⟩
            · obtain ⟨e1, he1⟩ := List.exists_mem_of_ne_nil _ n1
              refine ⟨e1, he1, fun j j0 j1 => ?_⟩
              have hjb : j < iv_ u f 0 := by
                rcases Int.lt_or_le j (iv_ u f 0) with q2 | q2
                · exact q2
                · have := h2 (iv_ u f 0) g2 (by omega)
                  rw [b2 e' q, hz] at this
                  omega
              rw [b3 e1 (by simp [he1]) e' h1 j j0 hjb]
              exact h2 j j0 j1
          · rw [if_neg hz]
            refine ih _ _ _ f2 (fun e he => hs e (by simp [he])) (fun e he i hi => ?_)
            obtain ⟨e', h1, h2⟩ := hb e he i hi
            rcases List.mem_append.mp h1 with q | q
            · obtain ⟨e1, he1⟩ := List.exists_mem_of_ne_nil _ n2
              refine ⟨e1, he1, fun j j0 j1 => ?_⟩
              have hjb : j < iv_ u f 0 := by
                rcases Int.lt_or_le j (iv_ u f 0) with q2 | q2
                · exact q2
                · have := h2 (iv_ u f 0) g2 (by omega)
                  rw [b1 e' q] at this
                  exact absurd this.symm hz
              rw [b3 e1 (by simp [he1]) e' h1 j j0 hjb]
              exact h2 j j0 j1
            · exact ⟨e', q, h2⟩
  exact key n _ es fp hf (fun e h => h) (fun e he i hi => ⟨e, he, hi⟩)
