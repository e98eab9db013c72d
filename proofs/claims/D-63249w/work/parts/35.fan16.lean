set_option maxRecDepth 100000
/-! ===== ListFan ===== -/
/-- places and twigs hold the pairs -/
def Pl (u : Mem) (p t : Nat) (xs : List (Int × Nat)) : Prop := (∀ b : Int, 0 ≤ b → b < 256 → (iv_ u p b = 0 ∧ ∀ x ∈ xs, x.1 ≠ b) ∨ (1 ≤ iv_ u p b ∧ iv_ u p b ≤ 48 ∧ (b, rv_ u t (iv_ u p b - 1)) ∈ xs)) ∧ (∀ x ∈ xs, ∀ y ∈ xs, iv_ u p x.1 = iv_ u p y.1 → x.1 = y.1) ∧ (∀ k : Int, 0 ≤ k → k < 48 → rv_ u t k ≠ 0 → ∃ x ∈ xs, iv_ u p x.1 = k + 1)
def F16 (u : Mem) (f : Nat) (xs : List (Int × Nat)) : Prop := kd_ u f = 16 ∧ kd_ u (rv_ u f 1) = 103 ∧ ln_ u (rv_ u f 1) = 256 ∧ kd_ u (rv_ u f 2) = 105 ∧ ln_ u (rv_ u f 2) = 48 ∧ iv_ u f 0 = xs.length ∧ Srt xs ∧ Pl u (rv_ u f 1) (rv_ u f 2) xs
theorem c_isWide (l : Launch) (u : Mem) {f : Nat} (kf : kd_ u f = 16) (kt : kd_ u (rv_ u f 2) = 105) (lt : ln_ u (rv_ u f 2) = 48) : Mt_ l yX16_isWide cX16_isWide 1 (some .boolean) 0 0 0 [aR f] u (qI fun r u' => u = u' ∧ r = 0) := by
  refine Mt_of (by decide) (Nat.le_of_ble_eq_true rfl) (fun X ho hX hN hI => ?_)
  subst hX
  show Z X 0 [some (aR f)] [] u 0 0
  refine z_aload_n ho dX16_isWide_0 rfl ?_
  refine gX16_17 ho dX16_isWide_1 kf ?_
  refine z_alen ho dX16_isWide_4 (by decide) kt ?_
  refine z_sipush ho dX16_isWide_5 rfl ?_
  refine z_icmp_ne (tgt := 15) ho dX16_isWide_8 (by decide) (by rw [lt]; unfold rng; omega) (by unfold rng; omega) (fun c8 => ?_) (fun c8 => ?_)
  · 
    refine z_iconst ho dX16_isWide_15 ?_
    refine r_Z ho dX16_isWide_16 (Nat.le_of_ble_eq_true rfl) (Nat.le_of_ble_eq_true rfl) ?_ ?_
    · omega
    · exact ⟨rfl, rfl⟩
  · rw [lt] at c8; omega
theorem c_F16_get (l : Launch) (u : Mem) {f : Nat} {b : Int} {xs : List (Int × Nat)} (hF : F16 u f xs) (h0 : 0 ≤ b) (h1 : b < 256) : Mt_ l yX16_get cX16_get 2 (some (.object "KeyHall$Twig")) 1 0 0 [aR f, aI b] u (qR fun r u' => u = u' ∧ r = lk b xs) := by
  obtain ⟨kf, ka, la, kb, lb, hs, hsr, hp1, hp2, hp3⟩ := hF
  refine Mt_of (by decide) (Nat.le_of_ble_eq_true rfl) (fun X ho hX hN hI => ?_)
  subst hX
  show Z X 0 [some (aR f), some (aI b)] [] u 0 0
  refine z_aload_n ho dX16_get_0 rfl ?_
  refine kX16_21 ho hN (c_isWide _ _ kf kb lb) dX16_get_1 kf (Nat.le_of_ble_eq_true rfl) (Nat.le_of_ble_eq_true rfl) (Nat.le_of_ble_eq_true rfl) (Nat.le_of_ble_eq_true rfl) (fun x1 u1 h1 => ?_)
  obtain ⟨rfl, rfl⟩ := h1
  refine z_if_eq (tgt := 16) ho dX16_get_4 (by decide) (by unfold rng; omega) (fun c4 => ?_) (fun c4 => ?_)
  · 
    have hq := hp1 b h0 h1
    refine z_aload_n ho dX16_get_16 rfl ?_
    refine gX16_11 ho dX16_get_17 kf ?_
    refine z_iload_n ho dX16_get_20 rfl ?_
    refine z_bald ho dX16_get_21 ka (by omega) (by omega) ?_
    refine z_if_ne (tgt := 29) ho dX16_get_22 (by decide) (by unfold rng; omega) (fun c22 => ?_) (fun c22 => ?_)
    · obtain ⟨g1, g2, g3⟩ := hq.resolve_left (fun q => c22 q.1)
      refine z_aload_n ho dX16_get_29 rfl ?_
      refine gX16_17 ho dX16_get_30 kf ?_
      refine z_aload_n ho dX16_get_33 rfl ?_
      refine gX16_11 ho dX16_get_34 kf ?_
      refine z_iload_n ho dX16_get_37 rfl ?_
      refine z_bald ho dX16_get_38 ka (by omega) (by omega) ?_
      refine z_iconst ho dX16_get_39 ?_
      refine z_isub ho dX16_get_40 ?_
      refine z_aald ho dX16_get_41 (by decide) kb (by omega) (by omega) ?_
      refine r_R ho dX16_get_42 (Nat.le_of_ble_eq_true rfl) (Nat.le_of_ble_eq_true rfl) ?_
      exact ⟨rfl, (lk_of hsr g3).symm⟩
    · 
      refine z_null ho dX16_get_25 ?_
      refine z_goto (tgt := 42) ho dX16_get_26 (by decide) ?_
      refine r_R ho dX16_get_42 (Nat.le_of_ble_eq_true rfl) (Nat.le_of_ble_eq_true rfl) ?_
      rcases hq with ⟨-, g⟩ | ⟨g1, -⟩
      · exact ⟨rfl, ((lk_0 hsr).mpr g).symm⟩
      · omega
  · exact absurd rfl c4
theorem Srt.before {xs : List (Int × Nat)} (hs : Srt xs) {A B : List (Int × Nat)} {x : Int × Nat} (h : xs = A ++ x :: B) : (∀ y ∈ A, y.1 < x.1) ∧ (∀ y ∈ B, x.1 < y.1) := by
  have := hs.1
  rw [h] at this
  obtain ⟨-, h2, h3⟩ := List.pairwise_append.mp this
  exact ⟨fun y hy => h3 y hy x (by simp), (List.pairwise_cons.mp h2).1⟩
theorem c_F16_from (l : Launch) (u : Mem) {f : Nat} {b : Int} {xs : List (Int × Nat)} (hF : F16 u f xs) (h0 : 0 ≤ b) (h1 : b ≤ 256) : Mt_ l yX16_from cX16_from 3 (some .int) 2 0 0 [aR f, aI b] u (qI fun r u' => u = u' ∧ Frm b xs r) := by
  have hsr := hF.2.2.2.2.2.2.1
  have kf := hF.1
  refine Mt_of (by decide) (Nat.le_of_ble_eq_true rfl) (fun X ho hX hN hI => ?_)
  subst hX
  show Z X 0 [some (aR f), some (aI b), none] [] u 0 0
  refine z_iload_n ho dX16_from_0 rfl ?_
  refine z_istore_n ho dX16_from_1 (Nat.le_of_ble_eq_true rfl) rfl ?_
  refine up_ind (m := 256) (P := fun k => b ≤ k → (∀ x ∈ xs, x.1 < b ∨ k ≤ x.1) → Z X 2 [some (aR f), some (aI b), some (aI k)] [] u 0 0) (fun k hk ih hbk hno => ?_) b (by omega) (by omega) (fun x hx => by omega)
  refine z_iload_n ho dX16_from_2 rfl ?_
  refine z_sipush ho dX16_from_3 rfl ?_
  refine z_icmp_ge (tgt := 23) ho dX16_from_6 (by decide) (by unfold rng; omega) (by unfold rng; omega) (fun c6 => ?_) (fun c6 => ?_)
  · 
    refine z_iload_n ho dX16_from_23 rfl ?_
    refine z_sipush ho dX16_from_24 rfl ?_
    refine z_icmp_ge (tgt := 34) ho dX16_from_27 (by decide) (by unfold rng; omega) (by unfold rng; omega) (fun c27 => ?_) (fun c27 => ?_)
    · 
      refine z_iconst ho dX16_from_34 ?_
      refine r_I ho dX16_from_35 (Nat.le_of_ble_eq_true rfl) (Nat.le_of_ble_eq_true rfl) ?_
      refine ⟨rfl, Or.inl ⟨rfl, fun x hx => ?_⟩⟩
      have := hno x hx
      have := (hsr.2 x hx).2.1
      omega
    · omega
  · 
    refine z_aload_n ho dX16_from_9 rfl ?_
    refine z_iload_n ho dX16_from_10 rfl ?_
    refine kX16_32 ho hN (c_F16_get _ _ hF (by omega) (by omega)) dX16_from_11 kf (Nat.le_of_ble_eq_true rfl) (Nat.le_of_ble_eq_true rfl) (Nat.le_of_ble_eq_true rfl) (Nat.le_of_ble_eq_true rfl) (fun x11 u11 h11 => ?_)
    obtain ⟨rfl, rfl⟩ := h11
    refine z_ifnonnull (tgt := 23) ho dX16_from_14 (by decide) (fun c14 => ?_) (fun c14 => ?_)
    · have hm := lk_mem c14
      refine z_iload_n ho dX16_from_23 rfl ?_
      refine z_sipush ho dX16_from_24 rfl ?_
      refine z_icmp_ge (tgt := 34) ho dX16_from_27 (by decide) (by unfold rng; omega) (by unfold rng; omega) (fun c27 => ?_) (fun c27 => ?_)
      · omega
      · 
        refine z_iload_n ho dX16_from_30 rfl ?_
        refine z_goto (tgt := 35) ho dX16_from_31 (by decide) ?_
        refine r_I ho dX16_from_35 (Nat.le_of_ble_eq_true rfl) (Nat.le_of_ble_eq_true rfl) ?_
        obtain ⟨A, B, hAB⟩ := List.append_of_mem hm
        obtain ⟨q1, q2⟩ := hsr.before hAB
        refine ⟨rfl, Or.inr ⟨A, _, B, hAB, rfl, hbk, fun y hy => ?_⟩⟩
        have g1 := q1 y hy
        have g2 := hno y (by rw [hAB]; simp [hy])
        simp only at g1
        omega
    · 
      refine z_iinc ho dX16_from_17 rfl rfl ?_
      refine z_goto (tgt := 2) ho dX16_from_20 (by decide) ?_
      refine ih c6 (by omega) (fun x hx => ?_)
      have g1 := hno x hx
      have g2 := (lk_0 hsr).mp c14 x hx
      omega
theorem c_F16_upTo (l : Launch) (u : Mem) {f : Nat} {b : Int} {xs : List (Int × Nat)} (hF : F16 u f xs) (h0 : -1 ≤ b) (h1 : b < 256) : Mt_ l yX16_upTo cX16_upTo 3 (some .int) 2 0 0 [aR f, aI b] u (qI fun r u' => u = u' ∧ Upt b xs r) := by
  have hsr := hF.2.2.2.2.2.2.1
  have kf := hF.1
  refine Mt_of (by decide) (Nat.le_of_ble_eq_true rfl) (fun X ho hX hN hI => ?_)
  subst hX
  show Z X 0 [some (aR f), some (aI b), none] [] u 0 0
  refine z_iload_n ho dX16_upTo_0 rfl ?_
  refine z_istore_n ho dX16_upTo_1 (Nat.le_of_ble_eq_true rfl) rfl ?_
  refine down_ind (m := -1) (P := fun k => k ≤ b → (∀ x ∈ xs, b < x.1 ∨ x.1 ≤ k) → Z X 2 [some (aR f), some (aI b), some (aI k)] [] u 0 0) (fun k hk ih hbk hno => ?_) b (by omega) (by omega) (fun x hx => by omega)
  refine z_iload_n ho dX16_upTo_2 rfl ?_
  refine z_if_lt (tgt := 20) ho dX16_upTo_3 (by decide) (by unfold rng; omega) (fun c3 => ?_) (fun c3 => ?_)
  · 
    refine z_iload_n ho dX16_upTo_20 rfl ?_
    refine r_I ho dX16_upTo_21 (Nat.le_of_ble_eq_true rfl) (Nat.le_of_ble_eq_true rfl) ?_
    obtain rfl : k = -1 := by omega
    refine ⟨rfl, Or.inl ⟨rfl, fun x hx => ?_⟩⟩
    have := hno x hx
    have := (hsr.2 x hx).1
    omega
  · 
    refine z_aload_n ho dX16_upTo_6 rfl ?_
    refine z_iload_n ho dX16_upTo_7 rfl ?_
    refine kX16_32 ho hN (c_F16_get _ _ hF (by omega) (by omega)) dX16_upTo_8 kf (Nat.le_of_ble_eq_true rfl) (Nat.le_of_ble_eq_true rfl) (Nat.le_of_ble_eq_true rfl) (Nat.le_of_ble_eq_true rfl) (fun x8 u8 h8 => ?_)
    obtain ⟨rfl, rfl⟩ := h8
    refine z_ifnonnull (tgt := 20) ho dX16_upTo_11 (by decide) (fun c11 => ?_) (fun c11 => ?_)
    · have hm := lk_mem c11
      refine z_iload_n ho dX16_upTo_20 rfl ?_
      refine r_I ho dX16_upTo_21 (Nat.le_of_ble_eq_true rfl) (Nat.le_of_ble_eq_true rfl) ?_
      obtain ⟨A, B, hAB⟩ := List.append_of_mem hm
      obtain ⟨q1, q2⟩ := hsr.before hAB
      refine ⟨rfl, Or.inr ⟨A, _, B, hAB, rfl, hbk, fun y hy => ?_⟩⟩
      have g1 := q2 y hy
      have g2 := hno y (by rw [hAB]; simp [hy])
      simp only at g1
      omega
    · 
      refine z_iinc ho dX16_upTo_14 rfl rfl ?_
      refine z_goto (tgt := 2) ho dX16_upTo_17 (by decide) ?_
      refine ih (by omega) (by omega) (fun x hx => ?_)
      have g1 := hno x hx
      have g2 := (lk_0 hsr).mp c11 x hx
      omega
theorem c_F16_init (l : Launch) (u : Mem) {f : Nat} (hk : kd_ u f = 16) (hz : sz_ u = f + 1) (h0 : ∀ i, iv_ u f i = 0) : Mt_ l yX16_init cX16_init 1 none 2 2 304 [aR f] u (qV fun u' => F16 u' f [] ∧ rv_ u' f 1 = f + 1 ∧ rv_ u' f 2 = f + 2 ∧ sz_ u' = sz_ u + 2 ∧ ∀ a, a < f → Sm u u' a) := by
  refine Mt_of (by decide) (Nat.le_of_ble_eq_true rfl) (fun X ho hX hN hI => ?_)
  subst hX
  have hin : In_ X := hI rfl
  show Z X 0 [some (aR f)] [] u 0 0
  refine z_wf (fun hw => ?_)
  have hf0 := (hw.1 f (by omega)).2
  refine z_aload_n ho dX16_init_0 rfl ?_
  refine kX16_3 ho hN (c_X7_init _ _ hf0) dX16_init_1 hf0 (Nat.le_of_ble_eq_true rfl) (Nat.le_of_ble_eq_true rfl) (Nat.le_of_ble_eq_true rfl) (Nat.le_of_ble_eq_true rfl) (fun u1 h1 => ?_)
  obtain rfl := h1
  refine z_aload_n ho dX16_init_4 rfl ?_
  refine z_sipush ho dX16_init_5 rfl ?_
  refine na_B ho dX16_init_8 (by omega) (by omega) (Nat.le_of_ble_eq_true rfl) (Nat.le_of_ble_eq_true rfl) ?_
  refine pX16_11 ho hin dX16_init_10 (by rw [kd_al, if_neg (by omega)]; exact hk)  ?_
  refine z_aload_n ho dX16_init_13 rfl ?_
  refine z_bipush ho dX16_init_14 rfl ?_
  refine aX16_15 ho dX16_init_16 (by omega) (by omega) (Nat.le_of_ble_eq_true rfl) (Nat.le_of_ble_eq_true rfl) ?_
  refine pX16_17 ho dX16_init_19 (by rw [kd_al, sz_wR, sz_al, if_neg (by omega), kd_wR, kd_al, if_neg (by omega)]; exact hk)  ?_
  refine r_V ho dX16_init_22 (Nat.le_of_ble_eq_true rfl) (Nat.le_of_ble_eq_true rfl) ?_
  have e2 : ¬ (f = f + 1 + 1) := by omega
  refine ⟨⟨?_, ?_, ?_, ?_, ?_, ?_, Srt.nil, fun b hb0 hb1 => Or.inl ⟨?_, fun x hx => by simp at hx⟩, fun x hx => by simp at hx, fun k hk0 hk1 hk2 => ?_⟩, ?_, ?_, ?_, fun a ha => ?_⟩
  all_goals (try simp only [sz_wI, kd_wI, ln_wI, iv_wI, rv_wI, sz_wR, kd_wR, ln_wR, iv_wR, rv_wR, sz_al, kd_al, ln_al, iv_al, rv_al, hz])
  · simp [e2]; exact hk
  · simp [e2]
  · simp [e2]
  · simp [e2]
  · simp [e2]
  · simp [e2, h0]
  · simp [e2]
  · simp only [sz_wI, kd_wI, ln_wI, iv_wI, rv_wI, sz_wR, kd_wR, ln_wR, iv_wR, rv_wR, sz_al, kd_al, ln_al, iv_al, rv_al, hz] at hk2; simp [e2] at hk2; omega
  · simp [e2]
  · simp [e2]
  · exact (((Sm.al (by omega)).tr (Sm.wR (by omega))).tr (Sm.al (by rw [sz_wR, sz_al]; omega))).tr (Sm.wR (by omega))
theorem Pl.full {u : Mem} {p t : Nat} {xs : List (Int × Nat)} (h : Pl u p t xs) (hf : ∀ k : Int, 0 ≤ k → k < 48 → rv_ u t k ≠ 0) : 48 ≤ xs.length := by
  have := nd_sub (List.range 48) (xs.map (fun x => (iv_ u p x.1 - 1).toNat)) List.nodup_range (fun k hk => by
    have hk := List.mem_range.mp hk
    obtain ⟨x, hx, he⟩ := h.2.2 k (by omega) (by omega) (hf k (by omega) (by omega))
    exact List.mem_map.mpr ⟨x, hx, by rw [he]; omega⟩)
  simpa using this
theorem Pl.put {u w : Mem} {p t v : Nat} {xs : List (Int × Nat)} {b k : Int} (h : Pl u p t xs) (hs : Srt xs) (hb : ∀ x ∈ xs, x.1 ≠ b) (h0 : 0 ≤ b) (h1 : b < 256) (k0 : 0 ≤ k) (k1 : k < 48) (hk : rv_ u t k = 0)
    (w1 : ∀ j, iv_ w p j = if j = b then k + 1 else iv_ u p j) (w2 : ∀ j, rv_ w t j = if j = k then v else rv_ u t j) : Pl w p t (ins b v xs) := by
  obtain ⟨p1, p2, p3⟩ := h
  have slot : ∀ x ∈ xs, 1 ≤ iv_ u p x.1 ∧ iv_ u p x.1 ≤ 48 ∧ iv_ u p x.1 - 1 ≠ k ∧ rv_ u t (iv_ u p x.1 - 1) = x.2 := fun x hx => by
    have hr := hs.2 x hx
    rcases p1 x.1 hr.1 hr.2.1 with ⟨-, q⟩ | ⟨q1, q2, q3⟩
    · exact absurd rfl (q x hx)
    · have e := lk_of hs q3
      have e' := lk_of hs (b := x.1) (t := x.2) hx
      refine ⟨q1, q2, fun z => ?_, e.symm.trans e'⟩
      rw [z] at q3
      exact (hs.2 _ q3).2.2 hk
  refine ⟨fun c c0 c1 => ?_, fun x hx y hy he => ?_, fun j j0 j1 hj => ?_⟩
  · by_cases e : c = b
    · subst e
      rw [w1, if_pos rfl]
      refine Or.inr ⟨by omega, by omega, mem_ins.mpr (Or.inr ?_)⟩
      rw [w2, if_pos (by omega)]
    · rw [w1, if_neg e]
      rcases p1 c c0 c1 with ⟨q1, q2⟩ | ⟨q1, q2, q3⟩
      · refine Or.inl ⟨q1, fun x hx => ?_⟩
        rcases mem_ins.mp hx with z | z
        · exact q2 x z
        · rw [z]; exact fun q => e q.symm
      · refine Or.inr ⟨q1, q2, mem_ins.mpr (Or.inl ?_)⟩
        have := (slot _ q3).2.2.1
        simp only at this
        rw [w2, if_neg this]
        exact q3
  · rw [w1, w1] at he
    rcases mem_ins.mp hx with zx | zx
    · rcases mem_ins.mp hy with zy | zy
      · rw [if_neg (hb x zx), if_neg (hb y zy)] at he
        exact p2 x zx y zy he
      · rw [if_neg (hb x zx), zy, if_pos rfl] at he
        have := (slot x zx).2.2.1
        omega
    · rcases mem_ins.mp hy with zy | zy
      · rw [if_neg (hb y zy), zx, if_pos rfl] at he
        have := (slot y zy).2.2.1
        omega
      · rw [zx, zy]
  · rw [w2] at hj
    by_cases e : j = k
    · exact ⟨(b, v), mem_ins.mpr (Or.inr rfl), by rw [w1, if_pos rfl, e]⟩
    · rw [if_neg e] at hj
      obtain ⟨x, hx, he⟩ := p3 j j0 j1 hj
      exact ⟨x, mem_ins.mpr (Or.inl hx), by rw [w1, if_neg (hb x hx)]; exact he⟩
theorem Pl.del {u w : Mem} {p t : Nat} {xs : List (Int × Nat)} {b : Int} (h : Pl u p t xs) (hs : Srt xs) (w1 : ∀ j, iv_ w p j = if j = b then 0 else iv_ u p j) (w2 : ∀ j, rv_ w t j = if j = iv_ u p b - 1 then 0 else rv_ u t j) (hb : ∃ x ∈ xs, x.1 = b) : Pl w p t (del b xs) := by
  obtain ⟨p1, p2, p3⟩ := h
  obtain ⟨xb, hxb, rfl⟩ := hb
  refine ⟨fun c c0 c1 => ?_, fun x hx y hy he => ?_, fun j j0 j1 hj => ?_⟩
  · by_cases e : c = xb.1
    · rw [w1, if_pos e]
      exact Or.inl ⟨rfl, fun x hx => by rw [e]; exact (mem_del.mp hx).2⟩
    · rw [w1, if_neg e]
      rcases p1 c c0 c1 with ⟨q1, q2⟩ | ⟨q1, q2, q3⟩
      · exact Or.inl ⟨q1, fun x hx => q2 x (mem_del.mp hx).1⟩
      · refine Or.inr ⟨q1, q2, mem_del.mpr ⟨?_, e⟩⟩
        rw [w2, if_neg (fun z => e (p2 _ q3 _ hxb (by simp only; omega)))]
        exact q3
  · obtain ⟨hx, nx⟩ := mem_del.mp hx
    obtain ⟨hy, ny⟩ := mem_del.mp hy
    rw [w1, w1, if_neg nx, if_neg ny] at he
    exact p2 x hx y hy he
  · rw [w2] at hj
    by_cases e : j = iv_ u p xb.1 - 1
    · rw [if_pos e] at hj; exact absurd rfl hj
    · rw [if_neg e] at hj
      obtain ⟨x, hx, he⟩ := p3 j j0 j1 hj
      have nx : x.1 ≠ xb.1 := fun z => e (by rw [← z]; omega)
      exact ⟨x, mem_del.mpr ⟨hx, nx⟩, by rw [w1, if_neg nx]; exact he⟩
theorem Pl.same {u w : Mem} {p t : Nat} {xs : List (Int × Nat)} (h : Pl u p t xs) (h1 : Sm u w p) (h2 : Sm u w t) : Pl w p t xs := by
  obtain ⟨p1, p2, p3⟩ := h
  refine ⟨fun b b0 b1 => ?_, fun x hx y hy he => ?_, fun k k0 k1 hk => ?_⟩
  · rw [h1.2.2.1, h2.2.2.2]; exact p1 b b0 b1
  · rw [h1.2.2.1, h1.2.2.1] at he; exact p2 x hx y hy he
  · rw [h2.2.2.2] at hk
    obtain ⟨x, hx, he⟩ := p3 k k0 k1 hk
    exact ⟨x, hx, by rw [h1.2.2.1]; exact he⟩
theorem c_F16_put (l : Launch) (u : Mem) {f t : Nat} {b : Int} {xs : List (Int × Nat)} (hF : F16 u f xs) (hb : ∀ x ∈ xs, x.1 ≠ b) (h0 : 0 ≤ b) (h1 : b < 256) (ht : kd_ u t = 6) (hroom : xs.length < 48) : Mt_ l yX16_put cX16_put 4 (some (.object "KeyHall$Fan")) 1 0 0 [aR f, aI b, aR t] u (qR fun r u' => r = f ∧ F16 u' f (ins b t xs) ∧ rv_ u' f 1 = rv_ u f 1 ∧ rv_ u' f 2 = rv_ u f 2 ∧ Fr (fun a _ => a ∈ fpF u f) u u' ∧ sz_ u' = sz_ u) := by
  obtain ⟨kf, ka, la, kb, lb, hs, hsr, hpl⟩ := hF
  refine Mt_of (by decide) (Nat.le_of_ble_eq_true rfl) (fun X ho hX hN hI => ?_)
  subst hX
  show Z X 0 [some (aR f), some (aI b), some (aR t), none] [] u 0 0
  refine z_wf (fun hw => ?_)
  have ht0 : t ≠ 0 := (hw.1 t (by omega)).2
  generalize hA : rv_ u f 1 = a1 at *
  generalize hB : rv_ u f 2 = a2 at *
  have d1 : a1 ≠ a2 := fun e => by rw [e] at ka; omega
  have d2 : f ≠ a1 := fun e => by rw [← e] at ka; omega
  have d3 : f ≠ a2 := fun e => by rw [← e] at kb; omega
  refine z_aload_n ho dX16_put_0 rfl ?_
  refine gX16_25 ho dX16_put_1 kf ?_
  refine z_bipush ho dX16_put_4 rfl ?_
  refine z_icmp_ne (tgt := 20) ho dX16_put_6 (by decide) (by rw [hs]; unfold rng; omega) (by unfold rng; omega) (fun c6 => ?_) (fun c6 => ?_)
  · 
    refine z_aload_n ho dX16_put_20 rfl ?_
    refine z_dup ho dX16_put_21 rfl ?_
    refine gX16_25 ho dX16_put_22 kf ?_
    refine z_iconst ho dX16_put_25 ?_
    refine z_iadd ho dX16_put_26 ?_
    refine pX16_25 ho dX16_put_27 kf  ?_
    refine z_aload_n ho dX16_put_30 rfl ?_
    refine kX16_21 ho hN (c_isWide _ _ kf (by rw [rv_wI, hB]; exact kb) (by rw [rv_wI, hB]; exact lb)) dX16_put_31 kf (Nat.le_of_ble_eq_true rfl) (Nat.le_of_ble_eq_true rfl) (Nat.le_of_ble_eq_true rfl) (Nat.le_of_ble_eq_true rfl) (fun x31 u31 h31 => ?_)
    obtain ⟨rfl, rfl⟩ := h31
    refine z_if_eq (tgt := 46) ho dX16_put_34 (by decide) (by unfold rng; omega) (fun c34 => ?_) (fun c34 => ?_)
    · rw [hs]
      generalize hv : wI_ u f 0 ((xs.length : Int) + 1) = v
      have kv : ∀ c, kd_ v c = kd_ u c := fun c => by rw [← hv]; rfl
      have lv : ∀ c, ln_ v c = ln_ u c := fun c => by rw [← hv]; rfl
      have rvv : ∀ c j, rv_ v c j = rv_ u c j := fun c j => by rw [← hv]; rfl
      have ivv : ∀ c j, c ≠ f → iv_ v c j = iv_ u c j := fun c j hc => by rw [← hv, iv_wI, if_neg (fun q => hc q.1)]
      have kf' : kd_ v f = 16 := by rw [kv]; exact kf
      have r1 : rv_ v f 1 = a1 := by rw [rvv]; exact hA
      have r2 : rv_ v f 2 = a2 := by rw [rvv]; exact hB
      have fin : ∀ k : Int, 0 ≤ k → k < 48 → rv_ u a2 k = 0 → Z X 63 [some (aR f), some (aI b), some (aR t), some (aI k)] [] v 0 0 := by
        intro k k0 k1 hk
        refine z_aload_n ho dX16_put_63 rfl ?_
        refine gX16_17 ho dX16_put_64 kf' ?_
        rw [r2]
        refine z_iload_n ho dX16_put_67 rfl ?_
        refine z_aload_n ho dX16_put_68 rfl ?_
        refine z_aast ho dX16_put_69 (Or.inl ⟨rfl, rfl, rfl⟩) (show kd_ v a2 = 105 by rw [kv]; exact kb) k0 (by rw [lv, lb]; omega) (Or.inr (by rw [kv]; exact ht)) ?_
        refine z_aload_n ho dX16_put_70 rfl ?_
        refine gX16_11 ho dX16_put_71 (show kd_ _ f = 16 by rw [kd_wR]; exact kf') ?_
        rw [rv_wR, if_neg (by omega), r1]
        refine z_iload_n ho dX16_put_74 rfl ?_
        refine z_iload_n ho dX16_put_75 rfl ?_
        refine z_iconst ho dX16_put_76 ?_
        refine z_iadd ho dX16_put_77 ?_
        refine z_i2b ho dX16_put_78 (by omega) (by omega) ?_
        refine z_bast ho dX16_put_79 (show kd_ _ a1 = 103 by rw [kd_wR, kv]; exact ka) h0 (by rw [ln_wR, lv, la]; omega) (by omega) (by omega) ?_
        refine z_aload_n ho dX16_put_80 rfl ?_
        refine r_R ho dX16_put_81 (Nat.le_of_ble_eq_true rfl) (Nat.le_of_ble_eq_true rfl) ?_
        generalize hw' : wI_ (wR_ v a2 k t) a1 b (k + 1) = w
        have q1 : rv_ w f 1 = a1 := by rw [← hw', rv_wI, rv_wR, if_neg (by omega)]; exact r1
        have q2 : rv_ w f 2 = a2 := by rw [← hw', rv_wI, rv_wR, if_neg (by omega)]; exact r2
        have kk : ∀ c, kd_ w c = kd_ u c := fun c => by rw [← hw']; exact kv c
        have ll : ∀ c, ln_ w c = ln_ u c := fun c => by rw [← hw']; exact lv c
        refine ⟨rfl, ⟨by rw [kk]; exact kf, by rw [q1, kk]; exact ka, by rw [q1, ll]; exact la, by rw [q2, kk]; exact kb, by rw [q2, ll]; exact lb, ?_, hsr.ins hb h0 h1 ht0, ?_⟩, q1, q2, ?_, by rw [← hw', ← hv]; rfl⟩
        · rw [← hw', iv_wI, if_neg (by omega), iv_wR, ← hv, iv_wI, if_pos ⟨rfl, rfl⟩, len_ins]; omega
        · rw [q1, q2]
          refine hpl.put hsr hb h0 h1 k0 k1 hk (fun j => ?_) (fun j => ?_)
          · rw [← hw', iv_wI]
            by_cases e : j = b
            · rw [if_pos ⟨rfl, e⟩, if_pos e]
            · rw [if_neg (fun q => e q.2), if_neg e, iv_wR, ivv _ _ (fun q => d2 q.symm)]
          · rw [← hw', rv_wI, rv_wR]
            by_cases e : j = k
            · rw [if_pos ⟨rfl, e⟩, if_pos e]
            · rw [if_neg (fun q => e q.2), if_neg e, rvv]
        · rw [← hw', ← hv]
          exact (((Fr.rf _ u).nI (Or.inr (by unfold fpF; simp))).nR (Or.inr (by unfold fpF; simp [hB]))).nI (Or.inr (by unfold fpF; simp [hA]))
      refine z_iconst ho dX16_put_46 ?_
      refine z_istore_n ho dX16_put_47 (Nat.le_of_ble_eq_true rfl) rfl ?_
      refine up_ind (m := 48) (P := fun k => 0 ≤ k → (∀ j : Int, 0 ≤ j → j < k → rv_ u a2 j ≠ 0) → Z X 48 [some (aR f), some (aI b), some (aR t), some (aI k)] [] v 0 0) (fun k hk ih k0 hall => ?_) 0 (by omega) (by omega) (fun j _ _ => by omega)
      have hlt : k < 48 := by
        rcases Int.lt_or_le k 48 with q | q
        · exact q
        · have := hpl.full (fun j j0 j1 => hall j j0 (by omega))
          omega
      refine z_aload_n ho dX16_put_48 rfl ?_
      refine gX16_17 ho dX16_put_49 kf' ?_
      rw [r2]
      refine z_iload_n ho dX16_put_52 rfl ?_
      refine z_aald ho dX16_put_53 (by decide) (show kd_ v a2 = 105 by rw [kv]; exact kb) k0 (by rw [lv, lb]; omega) ?_
      refine z_ifnull (tgt := 63) ho dX16_put_54 (by decide) (fun c54 => ?_) (fun c54 => ?_)
      · rw [rvv] at c54
        exact fin k k0 hlt c54
      · rw [rvv] at c54
        refine z_iinc ho dX16_put_57 rfl rfl ?_
        refine z_goto (tgt := 48) ho dX16_put_60 (by decide) ?_
        exact ih hlt (by omega) (fun j j0 j1 => by by_cases e : j = k; (· rw [e]; exact c54); exact hall j j0 (by omega))
    · exact absurd rfl c34
  · rw [hs] at c6; omega
