set_option maxRecDepth 100000
/-! ===== CharTree: put, take ===== -/
/-- cells that a CharTree's put and take change -/
def Q12 (t : Nat) (a K : Nat) : Prop := K = 17 ∨ a = t
def Q17 (a K : Nat) : Prop := K = 17
theorem c_Way_init (l : Launch) (u : Mem) {a : Nat} {c : Int} (ha : kd_ u a = 17) (h0 : 0 ≤ c) (h1 : c < 65536) : Mt_ l yX17_init cX17_init 2 none 1 0 0 [aR a, aI c] u (qV fun u' => u' = wI_ u a 0 c) := by
  refine Mt_of (by decide) (Nat.le_of_ble_eq_true rfl) (fun X ho hX hN hI => ?_)
  subst hX
  have hin : In_ X := hI rfl
  show Z X 0 [some (aR a), some (aI c)] [] u 0 0
  refine z_wf (fun hw => ?_)
  have ha0 := hw.1 a (by omega)
  refine z_aload_n ho dX17_init_0 rfl ?_
  refine kX17_1 ho hN dX17_init_1 ha0.2 (Nat.le_of_ble_eq_true rfl) (Nat.le_of_ble_eq_true rfl) ?_
  refine z_aload_n ho dX17_init_4 rfl ?_
  refine z_iload_n ho dX17_init_5 rfl ?_
  refine pX17_7 ho hin dX17_init_6 ha (by omega) (by omega) ?_
  refine r_V ho dX17_init_9 (Nat.le_of_ble_eq_true rfl) (Nat.le_of_ble_eq_true rfl) ?_
  exact rfl
/-- changes in cells of L and in w alone keep entries -/
theorem En.keep {u1 u3 : Mem} {L : List Nat} {w e : Nat} (hw : Wf u1) (hL : ∀ x ∈ L, kd_ u1 x = 17) (hkw : kd_ u1 w = 17) (H : ∀ a, a < sz_ u1 → a ∉ L → a ≠ w → Sm u1 u3 a) (h : En u1 e) : En u3 e ∧ tx u3 e = tx u1 e := by
  have ll := h.1.lt hw
  have s1 := H e ll.1 (fun q => by have := hL e q; rw [h.2] at this; omega) (fun q => by rw [q] at h; have := h.2; omega)
  have s2 := H (e + 1) ll.2.1 (fun q => by have := hL _ q; rw [h.1.2.2.1] at this; omega) (fun q => by have := h.1.2.2.1; rw [q] at this; omega)
  obtain ⟨k1, k2⟩ := h.1.same s1 s2
  exact ⟨⟨k1, by rw [s1.1]; exact h.2⟩, k2⟩
theorem WT.keep {u1 u3 : Mem} {L : List Nat} {w : Nat} (hw : Wf u1) (hL : ∀ x ∈ L, kd_ u1 x = 17) (hkw : kd_ u1 w = 17) (H : ∀ a, a < sz_ u1 → a ∉ L → a ≠ w → Sm u1 u3 a) {n x : Nat} {p : List Int} {es fp : List Nat} (h : WT u1 n p x es fp) (hd : ∀ y ∈ fp, y ∉ L ∧ y ≠ w) : WT u3 n p x es fp ∧ ∀ e ∈ es, En u3 e ∧ tx u3 e = tx u1 e := by
  have hm := WT.mem _ _ _ _ _ h
  have he : ∀ e ∈ es, En u3 e ∧ tx u3 e = tx u1 e := fun e h => En.keep hw hL hkw H (hm.1 e h).1
  exact ⟨WT.frame _ _ _ _ _ h (fun y hy => H y (hw.1 y (by rw [hm.2.1 y hy]; decide)).1 (hd y hy).1 (hd y hy).2) he, he⟩
/-- where an entry is whose text goes on with x -/
theorem WN.pos {u : Mem} {n w e : Nat} {p q' : List Int} {x : Int} {es1 es2 es3 es4 fp3 : List Nat} (w3 : WT u n (p ++ [iv_ u w 0]) (rv_ u w 2) es3 fp3) (hent : Ent u (rv_ u w 4) (p ++ [iv_ u w 0]) es2) (lo : ∀ e ∈ es1, ∃ d s, tx u e = p ++ d :: s ∧ d < iv_ u w 0) (hi : ∀ e ∈ es4, ∃ d s, tx u e = p ++ d :: s ∧ iv_ u w 0 < d)
    (he : e ∈ es1 ++ (es2 ++ (es3 ++ es4))) (ht : tx u e = p ++ x :: q') : (x < iv_ u w 0 → e ∈ es1) ∧ (iv_ u w 0 < x → e ∈ es4) ∧ (x = iv_ u w 0 → q' = [] → e ∈ es2 ∧ es2 = [rv_ u w 4]) ∧ (x = iv_ u w 0 → q' ≠ [] → e ∈ es3) ∧ (e ∈ es1 → x < iv_ u w 0) ∧ (e ∈ es4 → iv_ u w 0 < x) ∧ (e ∈ es2 → x = iv_ u w 0 ∧ q' = []) ∧ (e ∈ es3 → x = iv_ u w 0 ∧ q' ≠ []) := by
  have m3 := (WT.mem _ _ _ _ _ w3).1
  have t2 : ∀ e ∈ es2, tx u e = p ++ [iv_ u w 0] := fun e he => by
    rcases hent with ⟨-, rfl⟩ | ⟨h1, h2, rfl⟩
    · simp at he
    · rw [List.mem_singleton.mp he]; exact h2
  have i1 : e ∈ es1 → x < iv_ u w 0 := fun q => by
    obtain ⟨d, s, h1, h2⟩ := lo e q
    rw [ht] at h1
    have := (app_hd h1).1
    omega
  have i4 : e ∈ es4 → iv_ u w 0 < x := fun q => by
    obtain ⟨d, s, h1, h2⟩ := hi e q
    rw [ht] at h1
    have := (app_hd h1).1
    omega
  have i2 : e ∈ es2 → x = iv_ u w 0 ∧ q' = [] := fun q => by
    have := t2 e q
    rw [ht] at this
    exact app_hd this
  have i3 : e ∈ es3 → x = iv_ u w 0 ∧ q' ≠ [] := fun q => by
    obtain ⟨-, d, s, hh⟩ := m3 e q
    rw [ht, List.append_assoc] at hh
    have := app_hd hh
    exact ⟨this.1, by rw [this.2]; simp⟩
  have hE : e ∈ es2 → es2 = [rv_ u w 4] := fun q => by
    rcases hent with ⟨-, rfl⟩ | ⟨-, -, h⟩
    · simp at q
    · exact h
  simp only [List.mem_append] at he
  refine ⟨fun hx => ?_, fun hx => ?_, fun hx hq => ?_, fun hx hq => ?_, i1, i4, i2, i3⟩
  · rcases he with q | q | q | q
    · exact q
    · have := (i2 q).1; omega
    · have := (i3 q).1; omega
    · have := i4 q; omega
  · rcases he with q | q | q | q
    · have := i1 q; omega
    · have := (i2 q).1; omega
    · have := (i3 q).1; omega
    · exact q
  · rcases he with q | q | q | q
    · have := i1 q; omega
    · exact ⟨q, hE q⟩
    · exact absurd hq (i3 q).2
    · have := i4 q; omega
  · rcases he with q | q | q | q
    · have := i1 q; omega
    · exact absurd (i2 q).2 hq
    · exact q
    · have := i4 q; omega
/-- what a change of a tree of ways gives -/
def PW (u u' : Mem) (p : List Int) (r : Nat) (fp : List Nat) (E : Nat → Prop) : Prop := (∃ n' es' fp', WT u' n' p r es' fp' ∧ (∀ x, x ∈ es' ↔ E x) ∧ (∀ x ∈ fp', x ∈ fp ∨ sz_ u ≤ x)) ∧ Fr Q17 u u' ∧ (∀ a, a < sz_ u → a ∉ fp → Sm u u' a)
/-- a node with a changed part -/
theorem WT.build {u3 : Mem} {n1 n3 n4 w : Nat} {p : List Int} {es1 es2 es3 es4 fp1 fp3 fp4 : List Nat} (hk : kd_ u3 w = 17) (c0 : 0 ≤ iv_ u3 w 0) (c1 : iv_ u3 w 0 < 65536) (w1 : WT u3 n1 p (rv_ u3 w 1) es1 fp1) (w3 : WT u3 n3 (p ++ [iv_ u3 w 0]) (rv_ u3 w 2) es3 fp3) (w4 : WT u3 n4 p (rv_ u3 w 3) es4 fp4) (hent : Ent u3 (rv_ u3 w 4) (p ++ [iv_ u3 w 0]) es2) (hne : es2 ++ es3 ≠ []) (dj : Dj w fp1 fp3 fp4)
    (lo : ∀ e ∈ es1, ∃ d s, tx u3 e = p ++ d :: s ∧ d < iv_ u3 w 0) (hi : ∀ e ∈ es4, ∃ d s, tx u3 e = p ++ d :: s ∧ iv_ u3 w 0 < d) : WT u3 (n1 + n3 + n4 + 1) p w (es1 ++ (es2 ++ (es3 ++ es4))) (w :: (fp1 ++ (fp3 ++ fp4))) :=
  Or.inr ⟨hk, c0, c1, es1, es2, es3, es4, fp1, fp3, fp4, WT.mono _ _ _ _ _ _ w1 (by omega), WT.mono _ _ _ _ _ _ w3 (by omega), WT.mono _ _ _ _ _ _ w4 (by omega), hent, rfl, rfl, hne, dj, lo, hi⟩
theorem Ent.keep {u1 u3 : Mem} {L : List Nat} {w e : Nat} {t : List Int} {es : List Nat} (hw : Wf u1) (hL : ∀ x ∈ L, kd_ u1 x = 17) (hkw : kd_ u1 w = 17) (H : ∀ a, a < sz_ u1 → a ∉ L → a ≠ w → Sm u1 u3 a) (h : Ent u1 e t es) : Ent u3 e t es := by
  rcases h with h | ⟨h1, h2, rfl⟩
  · exact Or.inl h
  · have := En.keep hw hL hkw H h1
    exact Or.inr ⟨this.1, by rw [this.2]; exact h2, rfl⟩
theorem c_plant (l : Launch) {e : Nat} : ∀ (m n : Nat) (u : Mem) (w0 : Nat) (p q : List Int) (es fp : List Nat) (i : Nat), n + (8 - i) ≤ m → WT u n p w0 es fp → En u e → tx u e = p ++ q → i = p.length → q ≠ [] → (∀ x ∈ es, tx u x ≠ tx u e) →
    Mt_ l yX12_plant cX12_plant 4 (some (.object "KeyHall$Way")) (m + 2) (8 - i) (5 * (8 - i)) [aR w0, aR e, aI (i : Int)] u (qR fun r u' => r ≠ 0 ∧ PW u u' p r fp (fun x => x ∈ es ∨ x = e)) := by
  intro m
  induction m with
  | zero =>
    intro n u w0 p q es fp i hm h he hs hi hq
    exfalso
    have h8 := he.1.Tx.1
    have := List.length_pos_iff.mpr hq
    rw [hs, List.length_append] at h8
    omega
  | succ m ih =>
    intro n u w0 p q es fp i hm h he hs hi hq hnew
    have hlen := he.1.tx_len
    have h8 := he.1.Tx.1
    have hpl : (p.length : Int) + q.length = iv_ u e 1 := by rw [← hlen, hs]; simp
    have hql := List.length_pos_iff.mpr hq
    obtain ⟨q', hq'⟩ := he.1.split hs (i := (i : Int)) (by omega) (by omega)
    subst hq'
    simp only [List.length_cons] at hpl hql
    have hke := he.1
    obtain ⟨kk, rk, ck, lk, nk, nk8, vk⟩ := hke
    have hvx := vk i (by omega) (by omega)
    refine Mt_of (by decide) (Nat.le_of_ble_eq_true rfl) (fun X ho hX hN hI => ?_)
    subst hX
    show Z X 0 [some (aR w0), some (aR e), some (aI i), none] [] u 0 0
    refine z_wf (fun hw => ?_)
    have hel := he.1.lt hw
    have hwl : ∀ {n : Nat} {p : List Int} {w : Nat} {es fp : List Nat} {v : Mem}, Wf v → WT v n p w es fp → ∀ y ∈ fp, y < sz_ v := fun hv hh y hy => (hv.1 y (by rw [(WT.mem _ _ _ _ _ hh).2.1 y hy]; decide)).1
    generalize hx : iv_ u (e + 1) i = x at *
    -- the new character or the old one
    have mid : ∀ (u1 : Mem) (w n' cu : Nat) (es1 es2 es3 es4 fp1 fp3 fp4 : List Nat), w ≠ 0 → kd_ u1 w = 17 → 0 ≤ iv_ u1 w 0 → iv_ u1 w 0 < 65536 → WT u1 n' p (rv_ u1 w 1) es1 fp1 → WT u1 n' (p ++ [iv_ u1 w 0]) (rv_ u1 w 2) es3 fp3 → WT u1 n' p (rv_ u1 w 3) es4 fp4 → Ent u1 (rv_ u1 w 4) (p ++ [iv_ u1 w 0]) es2 → Dj w fp1 fp3 fp4 →
        (∀ e ∈ es1, ∃ d s, tx u1 e = p ++ d :: s ∧ d < iv_ u1 w 0) → (∀ e ∈ es4, ∃ d s, tx u1 e = p ++ d :: s ∧ iv_ u1 w 0 < d) → (∀ y, y ∈ es1 ++ (es2 ++ (es3 ++ es4)) ↔ y ∈ es) → (∀ y ∈ es, tx u1 y = tx u y) → Fr Q17 u u1 → (∀ a, a < sz_ u → a ∉ fp → Sm u u1 a) → (∀ y ∈ w :: (fp1 ++ (fp3 ++ fp4)), y ∈ fp ∨ sz_ u ≤ y) →
        (es2 ++ es3 ≠ [] ∨ x = iv_ u1 w 0) → n' + (8 - (i + 1)) ≤ m → (cu = 0 ∧ n' + (8 - i) ≤ m ∨ cu = 1 ∧ x = iv_ u1 w 0) → Z X 22 [some (aR w0), some (aR e), some (aI (i : Int)), some (aR w)] [] u1 cu (5 * cu) := by
      intro u1 w n' cu es1 es2 es3 es4 fp1 fp3 fp4 hw0 hkw v0 v1 w1 w3 w4 hent dj lo hi4 hmem htx hF hsm hfp hne hn hcu
      refine z_wf (fun hw1 => ?_)
      obtain ⟨he1, hte1⟩ := hF.En hw he (by unfold Q17; decide) (by unfold Q17; decide)
      have sme : Sm u u1 e := (hF.2 e hel.1).2.2 (by unfold Q17; rw [he.2]; decide)
      have sme1 : Sm u u1 (e + 1) := (hF.2 (e + 1) hel.2.1).2.2 (by unfold Q17; rw [ck]; decide)
      have rk1 : rv_ u1 e 0 = e + 1 := by rw [sme.2.2.2]; exact rk
      have ck1 : kd_ u1 (e + 1) = 101 := by rw [sme1.1]; exact ck
      have lk1 : ln_ u1 (e + 1) = 8 := by rw [sme1.2.1]; exact lk
      have hx1 : iv_ u1 (e + 1) i = x := by rw [sme1.2.2.1]; exact hx
      have hn1 : iv_ u1 e 1 = iv_ u e 1 := sme.2.2.1 1
      have hs1 : tx u1 e = p ++ x :: q' := by rw [hte1]; exact hs
      have hnew1 : ∀ y ∈ es, tx u1 y ≠ tx u1 e := fun y hy => by rw [htx y hy, hte1]; exact hnew y hy
      have hwsz := (hw1.1 w (by omega)).1
      obtain ⟨dj1, dj2, dj3, dj4, dj5⟩ := dj
      have done : ∀ u3 : Mem, PW u u3 p w fp (fun x => x ∈ es ∨ x = e) → Z X 113 [some (aR w0), some (aR e), some (aI (i : Int)), some (aR w)] [] u3 (8 - i) (5 * (8 - i)) := by
        intro u3 h3
        refine z_aload_n ho dX12_plant_113 rfl ?_
        refine r_R ho dX12_plant_114 (Nat.le_refl _) (Nat.le_refl _) ?_
        exact ⟨hw0, h3⟩
      refine z_aload_n ho dX12_plant_22 rfl ?_
      refine gX12_51 ho dX12_plant_23 he1.2 ?_
      refine z_iload_n ho dX12_plant_26 rfl ?_
      refine z_cald ho dX12_plant_27 (by rw [rk1]; exact ck1) (by omega) (by rw [rk1, lk1]; omega) ?_
      refine z_aload_n ho dX12_plant_28 rfl ?_
      refine gX12_27 ho dX12_plant_29 hkw ?_
      refine z_icmp_ge (tgt := 51) ho dX12_plant_32 (by decide) (by rw [rk1, hx1]; unfold rng; omega) (by unfold rng; omega) (fun c32 => ?_) (fun c32 => ?_)
      · 
        refine z_aload_n ho dX12_plant_51 rfl ?_
        refine gX12_51 ho dX12_plant_52 he1.2 ?_
        refine z_iload_n ho dX12_plant_55 rfl ?_
        refine z_cald ho dX12_plant_56 (by rw [rk1]; exact ck1) (by omega) (by rw [rk1, lk1]; omega) ?_
        refine z_aload_n ho dX12_plant_57 rfl ?_
        refine gX12_27 ho dX12_plant_58 hkw ?_
        refine z_icmp_le (tgt := 80) ho dX12_plant_61 (by decide) (by rw [rk1, hx1]; unfold rng; omega) (by unfold rng; omega) (fun c61 => ?_) (fun c61 => ?_)
        · rw [rk1, hx1] at c32 c61
          have hxe : x = iv_ u1 w 0 := by omega
          refine z_iload_n ho dX12_plant_80 rfl ?_
          refine z_iconst ho dX12_plant_81 ?_
          refine z_iadd ho dX12_plant_82 ?_
          refine z_aload_n ho dX12_plant_83 rfl ?_
          refine gX12_44 ho dX12_plant_84 he1.2 ?_
          refine z_icmp_ge (tgt := 108) ho dX12_plant_87 (by decide) (by unfold rng; omega) (by rw [hn1]; unfold rng; omega) (fun c87 => ?_) (fun c87 => ?_)
          · rw [hn1] at c87
            have hq' : q' = [] := List.eq_nil_of_length_eq_zero (by omega)
            refine z_aload_n ho dX12_plant_108 rfl ?_
            refine z_aload_n ho dX12_plant_109 rfl ?_
            refine pX12_38 ho dX12_plant_110 hkw  ?_
            refine z_cu (by omega) (by omega) (done _ ?_)
            have e2 : es2 = [] := by
              rcases hent with ⟨-, h⟩ | ⟨h1, h2, h3⟩
              · exact h
              · exact absurd (by rw [h2, hs1, hq', hxe]) (hnew1 _ ((hmem _).mp (by rw [h3]; simp)))
            subst e2
            generalize hu3 : wR_ u1 w 4 e = u3
            have H : ∀ a, a < sz_ u1 → a ∉ ([] : List Nat) → a ≠ w → Sm u1 u3 a := fun a _ _ hne => by rw [← hu3]; exact Sm.wR hne
            have f1 : kd_ u3 w = 17 := by rw [← hu3]; exact hkw
            have f2 : iv_ u3 w 0 = iv_ u1 w 0 := by rw [← hu3]; rfl
            have f3 : ∀ j : Int, j ≠ 4 → rv_ u3 w j = rv_ u1 w j := fun j hj => by rw [← hu3, rv_wR, if_neg (fun q => hj q.2)]
            have f4 : rv_ u3 w 4 = e := by rw [← hu3, rv_wR, if_pos ⟨rfl, rfl⟩]
            have hL : ∀ x ∈ ([] : List Nat), kd_ u1 x = 17 := fun x hx => by simp at hx
            obtain ⟨k1, e1⟩ := WT.keep hw1 hL hkw H w1 (fun y hy => ⟨by simp, fun q => dj1 (q ▸ hy)⟩)
            obtain ⟨k3, e3⟩ := WT.keep hw1 hL hkw H w3 (fun y hy => ⟨by simp, fun q => dj2 (q ▸ hy)⟩)
            obtain ⟨k4, e4⟩ := WT.keep hw1 hL hkw H w4 (fun y hy => ⟨by simp, fun q => dj3 (q ▸ hy)⟩)
            have ee := En.keep hw1 hL hkw H he1
            have hh := WT.build (u3 := u3) (w := w) (p := p) (es1 := es1) (es2 := [e]) (es3 := es3) (es4 := es4) (n1 := n') (n3 := n') (n4 := n') f1 (by rw [f2]; exact v0) (by rw [f2]; exact v1) (by rw [f3 1 (by decide)]; exact k1) (by rw [f2, f3 2 (by decide)]; exact k3) (by rw [f3 3 (by decide)]; exact k4) (by rw [f2, f4]; exact Or.inr ⟨ee.1, by rw [ee.2, hs1, hq', hxe], rfl⟩) (by simp) ⟨dj1, dj2, dj3, dj4, dj5⟩ (fun y hy => by rw [f2, (e1 y hy).2]; exact lo y hy) (fun y hy => by rw [f2, (e4 y hy).2]; exact hi4 y hy)
            refine ⟨⟨_, _, _, hh, fun y => ?_, hfp⟩, ?_, fun a ha hna => ?_⟩
            · show _ ↔ (y ∈ es ∨ y = e)
              rw [← hmem y]
              simp only [List.mem_append, List.mem_singleton, List.not_mem_nil, false_or]
              constructor
              · rintro (z | z | z | z)
                · exact Or.inl (Or.inl z)
                · exact Or.inr z
                · exact Or.inl (Or.inr (Or.inl z))
                · exact Or.inl (Or.inr (Or.inr z))
              · rintro ((z | z | z) | z)
                · exact Or.inl z
                · exact Or.inr (Or.inr (Or.inl z))
                · exact Or.inr (Or.inr (Or.inr z))
                · exact Or.inr (Or.inl z)
            · rw [← hu3]
              exact hF.tr (Fr.wR (fun _ => hkw))
            · have hwf := hfp w (by simp)
              exact (hsm a ha hna).tr (H a (by have := hF.1; omega) (by simp) (fun z => by rw [z] at ha hna; rcases hwf with z2 | z2; (· exact hna z2); omega))
          · rw [hn1] at c87
            have hq' : q' ≠ [] := fun z => by rw [z] at hpl; simp at hpl; omega
            refine z_aload_n ho dX12_plant_90 rfl ?_
            refine z_aload_n ho dX12_plant_91 rfl ?_
            refine gX12_41 ho dX12_plant_92 hkw ?_
            refine z_aload_n ho dX12_plant_95 rfl ?_
            refine z_iload_n ho dX12_plant_96 rfl ?_
            refine z_iconst ho dX12_plant_97 ?_
            refine z_iadd ho dX12_plant_98 ?_
            refine kX12_47 ho hN (ih n' u1 (rv_ u1 w 2) (p ++ [x]) q' es3 fp3 (i + 1) (by omega) (by rw [hxe]; exact w3) he1 (by rw [hs1]; simp) (by simp [hi]) hq' (fun y hy => hnew1 y ((hmem y).mp (by simp [hy])))) dX12_plant_99 (by omega) (Nat.le_of_ble_eq_true rfl) (by omega) (by omega) (fun x99 u99 h99 => ?_)
            obtain ⟨hr0, h2⟩ := h99
            obtain ⟨⟨n2, es', fp', k3, hE, hfp'⟩, hF2, hsm2⟩ := h2
            have hw2 : kd_ u99 w = 17 := by rw [(hF2.2 w hwsz).1]; exact hkw
            refine pX12_41 ho dX12_plant_102 hw2  ?_
            refine z_goto (tgt := 113) ho dX12_plant_105 (by decide) ?_
            refine z_cu (by omega) (by omega) (done _ ?_)
            have smw : Sm u1 u99 w := hsm2 w hwsz dj2
            generalize hu3 : wR_ u99 w 2 x99 = u3
            have H2 : ∀ a, a ≠ w → Sm u99 u3 a := fun a hne => by rw [← hu3]; exact Sm.wR hne
            have H : ∀ a, a < sz_ u1 → a ∉ fp3 → a ≠ w → Sm u1 u3 a := fun a ha hna hne => (hsm2 a ha hna).tr (H2 a hne)
            have f1 : kd_ u3 w = 17 := by rw [← hu3]; exact hw2
            have f2 : iv_ u3 w 0 = iv_ u1 w 0 := by rw [← hu3]; exact smw.2.2.1 0
            have f3 : ∀ j : Int, j ≠ 2 → rv_ u3 w j = rv_ u1 w j := fun j hj => by rw [← hu3, rv_wR, if_neg (fun q => hj q.2)]; exact smw.2.2.2 j
            have f4 : rv_ u3 w 2 = x99 := by rw [← hu3, rv_wR, if_pos ⟨rfl, rfl⟩]
            have hL : ∀ x ∈ fp3, kd_ u1 x = 17 := (WT.mem _ _ _ _ _ w3).2.1
            obtain ⟨k1, e1⟩ := WT.keep hw1 hL hkw H w1 (fun y hy => ⟨(dj4 y hy).1, fun q => dj1 (q ▸ hy)⟩)
            obtain ⟨k4, e4⟩ := WT.keep hw1 hL hkw H w4 (fun y hy => ⟨fun z => dj5 y z hy, fun q => dj3 (q ▸ hy)⟩)
            have hnw : w ∉ fp' := fun z => by rcases hfp' w z with z | z; (· exact dj2 z); omega
            have w3' : WT u3 n2 (p ++ [iv_ u1 w 0]) x99 es' fp' ∧ ∀ e ∈ es', tx u3 e = tx u99 e := by
              rw [hxe] at k3
              have hm2 := WT.mem _ _ _ _ _ k3
              have hee : ∀ e ∈ es', En u3 e ∧ tx u3 e = tx u99 e := fun y hy => by
                have en := (hm2.1 y hy).1
                have := en.1.same (H2 y (fun z => by rw [z] at en; have := en.2; omega)) (H2 (y + 1) (fun z => by have := en.1.2.2.1; rw [z] at this; omega))
                exact ⟨⟨this.1, by rw [(H2 y (fun z => by rw [z] at en; have := en.2; omega)).1]; exact en.2⟩, this.2⟩
              exact ⟨WT.frame _ _ _ _ _ k3 (fun y hy => H2 y (fun z => hnw (z ▸ hy))) hee, fun y hy => (hee y hy).2⟩
            have ent3 := Ent.keep hw1 hL hkw H hent
            have txn : ∀ y ∈ es', (y ∈ es3 ∧ tx u3 y = tx u1 y) ∨ (y = e ∧ tx u3 y = p ++ x :: q') := fun y hy => by
              have en : ∀ y, En u1 y → tx u3 y = tx u1 y := fun y h => (En.keep hw1 hL hkw H h).2
              rcases (hE y).mp hy with z | z
              · exact Or.inl ⟨z, en y ((WT.mem _ _ _ _ _ w3).1 y z).1⟩
              · exact Or.inr ⟨z, by rw [z, en e he1]; exact hs1⟩
            have hh := WT.build (u3 := u3) (w := w) (p := p) (es1 := es1) (es2 := es2) (es3 := es') (es4 := es4) (fp1 := fp1) (fp3 := fp') (fp4 := fp4) (n1 := n') (n3 := n2) (n4 := n') f1 (by rw [f2]; exact v0) (by rw [f2]; exact v1) (by rw [f3 1 (by decide)]; exact k1) (by rw [f2, f4]; exact w3'.1) (by rw [f3 3 (by decide)]; exact k4) (by rw [f2, f3 4 (by decide)]; exact ent3) (fun z => by have := ((hE e).mpr (Or.inr rfl)); rw [(List.append_eq_nil_iff.mp z).2] at this; simp at this) ⟨dj1, hnw, dj3, fun y hy => ⟨fun z => by rcases hfp' y z with q | q; (· exact (dj4 y hy).1 q); exact absurd (hwl hw1 w1 y hy) (by omega), (dj4 y hy).2⟩, fun y hy => fun z => by rcases hfp' y hy with q | q; (· exact dj5 y q z); exact absurd (hwl hw1 w4 y z) (by omega)⟩ (fun y hy => by rw [f2, (e1 y hy).2]; exact lo y hy) (fun y hy => by rw [f2, (e4 y hy).2]; exact hi4 y hy)
            refine ⟨⟨_, _, _, hh, fun y => ?_, fun y hy => ?_⟩, ?_, fun a ha hna => ?_⟩
            · show _ ↔ (y ∈ es ∨ y = e)
              rw [← hmem y]
              simp only [List.mem_append, hE y]
              constructor
              · intro z; rcases z with z | z | (z | z) | z
                all_goals simp [z]
              · intro z; rcases z with (z | z | z | z) | z
                all_goals simp [z]
            · simp only [List.mem_cons, List.mem_append] at hy
              have hq : y ∈ w :: (fp1 ++ (fp3 ++ fp4)) ∨ sz_ u1 ≤ y := by
                simp only [List.mem_cons, List.mem_append]
                rcases hy with z | z | z | z
                · simp [z]
                · simp [z]
                · rcases hfp' y z with z | z
                  · simp [z]
                  · exact Or.inr z
                · simp [z]
              rcases hq with z | z
              · exact hfp y z
              · exact Or.inr (by have := hF.1; omega)
            · rw [← hu3]
              exact (hF.tr hF2).tr (Fr.wR (fun _ => hw2))
            · have hwf := hfp w (by simp)
              exact (hsm a ha hna).tr (H a (by have := hF.1; omega) (fun z => by rcases hfp a (by simp [z]) with z2 | z2; (· exact hna z2); omega) (fun z => by rw [z] at ha hna; rcases hwf with z2 | z2; (· exact hna z2); omega))
        · rw [rk1, hx1] at c32 c61
          refine z_aload_n ho dX12_plant_64 rfl ?_
          refine z_aload_n ho dX12_plant_65 rfl ?_
          refine gX12_35 ho dX12_plant_66 hkw ?_
          refine z_aload_n ho dX12_plant_69 rfl ?_
          refine z_iload_n ho dX12_plant_70 rfl ?_
          refine kX12_47 ho hN (ih n' u1 (rv_ u1 w 3) p (x :: q') es4 fp4 i (by omega) w4 he1 hs1 hi (by simp) (fun y hy => hnew1 y ((hmem y).mp (by simp [hy])))) dX12_plant_71 (by omega) (Nat.le_of_ble_eq_true rfl) (by omega) (by omega) (fun x71 u71 h71 => ?_)
          obtain ⟨hr0, h2⟩ := h71
          obtain ⟨⟨n2, es', fp', k4, hE, hfp'⟩, hF2, hsm2⟩ := h2
          have hw2 : kd_ u71 w = 17 := by rw [(hF2.2 w hwsz).1]; exact hkw
          refine pX12_35 ho dX12_plant_74 hw2  ?_
          refine z_goto (tgt := 113) ho dX12_plant_77 (by decide) ?_
          refine z_cu (by omega) (by omega) (done _ ?_)
          have smw : Sm u1 u71 w := hsm2 w hwsz dj3
          generalize hu3 : wR_ u71 w 3 x71 = u3
          have H2 : ∀ a, a ≠ w → Sm u71 u3 a := fun a hne => by rw [← hu3]; exact Sm.wR hne
          have H : ∀ a, a < sz_ u1 → a ∉ fp4 → a ≠ w → Sm u1 u3 a := fun a ha hna hne => (hsm2 a ha hna).tr (H2 a hne)
          have f1 : kd_ u3 w = 17 := by rw [← hu3]; exact hw2
          have f2 : iv_ u3 w 0 = iv_ u1 w 0 := by rw [← hu3]; exact smw.2.2.1 0
          have f3 : ∀ j : Int, j ≠ 3 → rv_ u3 w j = rv_ u1 w j := fun j hj => by rw [← hu3, rv_wR, if_neg (fun q => hj q.2)]; exact smw.2.2.2 j
          have f4 : rv_ u3 w 3 = x71 := by rw [← hu3, rv_wR, if_pos ⟨rfl, rfl⟩]
          have hL : ∀ x ∈ fp4, kd_ u1 x = 17 := (WT.mem _ _ _ _ _ w4).2.1
          obtain ⟨k1, e1⟩ := WT.keep hw1 hL hkw H w1 (fun y hy => ⟨(dj4 y hy).2, fun q => dj1 (q ▸ hy)⟩)
          obtain ⟨k3, e3⟩ := WT.keep hw1 hL hkw H w3 (fun y hy => ⟨dj5 y hy, fun q => dj2 (q ▸ hy)⟩)
          have hnw : w ∉ fp' := fun z => by rcases hfp' w z with z | z; (· exact dj3 z); omega
          have w4' : WT u3 n2 p x71 es' fp' ∧ ∀ e ∈ es', tx u3 e = tx u71 e := by
            have hm2 := WT.mem _ _ _ _ _ k4
            have hee : ∀ e ∈ es', En u3 e ∧ tx u3 e = tx u71 e := fun y hy => by
              have en := (hm2.1 y hy).1
              have := en.1.same (H2 y (fun z => by rw [z] at en; have := en.2; omega)) (H2 (y + 1) (fun z => by have := en.1.2.2.1; rw [z] at this; omega))
              exact ⟨⟨this.1, by rw [(H2 y (fun z => by rw [z] at en; have := en.2; omega)).1]; exact en.2⟩, this.2⟩
            exact ⟨WT.frame _ _ _ _ _ k4 (fun y hy => H2 y (fun z => hnw (z ▸ hy))) hee, fun y hy => (hee y hy).2⟩
          have ent3 := Ent.keep hw1 hL hkw H hent
          have txn : ∀ y ∈ es', (y ∈ es4 ∧ tx u3 y = tx u1 y) ∨ (y = e ∧ tx u3 y = p ++ x :: q') := fun y hy => by
            have en : ∀ y, En u1 y → tx u3 y = tx u1 y := fun y h => (En.keep hw1 hL hkw H h).2
            rcases (hE y).mp hy with z | z
            · exact Or.inl ⟨z, en y ((WT.mem _ _ _ _ _ w4).1 y z).1⟩
            · exact Or.inr ⟨z, by rw [z, en e he1]; exact hs1⟩
          have hh := WT.build (u3 := u3) (w := w) (p := p) (es1 := es1) (es2 := es2) (es3 := es3) (es4 := es') (fp1 := fp1) (fp3 := fp3) (fp4 := fp') (n1 := n') (n3 := n') (n4 := n2) f1 (by rw [f2]; exact v0) (by rw [f2]; exact v1) (by rw [f3 1 (by decide)]; exact k1) (by rw [f2, f3 2 (by decide)]; exact k3) (by rw [f4]; exact w4'.1) (by rw [f2, f3 4 (by decide)]; exact ent3) (hne.resolve_right (by omega)) ⟨dj1, dj2, hnw, fun y hy => ⟨(dj4 y hy).1, fun z => by rcases hfp' y z with q | q; (· exact (dj4 y hy).2 q); exact absurd (hwl hw1 w1 y hy) (by omega)⟩, fun y hy => fun z => by rcases hfp' y z with q | q; (· exact dj5 y hy q); exact absurd (hwl hw1 w3 y hy) (by omega)⟩ (fun y hy => by rw [f2, (e1 y hy).2]; exact lo y hy) (fun y hy => by rw [f2]; rcases txn y hy with ⟨z, z2⟩ | ⟨z, z2⟩; (· rw [z2]; exact hi4 y z); exact ⟨x, q', z2, by omega⟩)
          refine ⟨⟨_, _, _, hh, fun y => ?_, fun y hy => ?_⟩, ?_, fun a ha hna => ?_⟩
          · show _ ↔ (y ∈ es ∨ y = e)
            rw [← hmem y]
            simp only [List.mem_append, hE y]
            constructor
            · intro z; rcases z with z | z | z | z | z
              all_goals simp [z]
            · intro z; rcases z with (z | z | z | z) | z
              all_goals simp [z]
          · simp only [List.mem_cons, List.mem_append] at hy
            have hq : y ∈ w :: (fp1 ++ (fp3 ++ fp4)) ∨ sz_ u1 ≤ y := by
              simp only [List.mem_cons, List.mem_append]
              rcases hy with z | z | z | z
              · simp [z]
              · simp [z]
              · simp [z]
              · rcases hfp' y z with z | z
                · simp [z]
                · exact Or.inr z
            rcases hq with z | z
            · exact hfp y z
            · exact Or.inr (by have := hF.1; omega)
          · rw [← hu3]
            exact (hF.tr hF2).tr (Fr.wR (fun _ => hw2))
          · have hwf := hfp w (by simp)
            exact (hsm a ha hna).tr (H a (by have := hF.1; omega) (fun z => by rcases hfp a (by simp [z]) with z2 | z2; (· exact hna z2); omega) (fun z => by rw [z] at ha hna; rcases hwf with z2 | z2; (· exact hna z2); omega))
      · rw [rk1, hx1] at c32
        refine z_aload_n ho dX12_plant_35 rfl ?_
        refine z_aload_n ho dX12_plant_36 rfl ?_
        refine gX12_32 ho dX12_plant_37 hkw ?_
        refine z_aload_n ho dX12_plant_40 rfl ?_
        refine z_iload_n ho dX12_plant_41 rfl ?_
        refine kX12_47 ho hN (ih n' u1 (rv_ u1 w 1) p (x :: q') es1 fp1 i (by omega) w1 he1 hs1 hi (by simp) (fun y hy => hnew1 y ((hmem y).mp (by simp [hy])))) dX12_plant_42 (by omega) (Nat.le_of_ble_eq_true rfl) (by omega) (by omega) (fun x42 u42 h42 => ?_)
        obtain ⟨hr0, h2⟩ := h42
        obtain ⟨⟨n2, es', fp', k1, hE, hfp'⟩, hF2, hsm2⟩ := h2
        have hw2 : kd_ u42 w = 17 := by rw [(hF2.2 w hwsz).1]; exact hkw
        refine pX12_32 ho dX12_plant_45 hw2  ?_
        refine z_goto (tgt := 113) ho dX12_plant_48 (by decide) ?_
        refine z_cu (by omega) (by omega) (done _ ?_)
        have smw : Sm u1 u42 w := hsm2 w hwsz dj1
        generalize hu3 : wR_ u42 w 1 x42 = u3
        have H2 : ∀ a, a ≠ w → Sm u42 u3 a := fun a hne => by rw [← hu3]; exact Sm.wR hne
        have H : ∀ a, a < sz_ u1 → a ∉ fp1 → a ≠ w → Sm u1 u3 a := fun a ha hna hne => (hsm2 a ha hna).tr (H2 a hne)
        have f1 : kd_ u3 w = 17 := by rw [← hu3]; exact hw2
        have f2 : iv_ u3 w 0 = iv_ u1 w 0 := by rw [← hu3]; exact smw.2.2.1 0
        have f3 : ∀ j : Int, j ≠ 1 → rv_ u3 w j = rv_ u1 w j := fun j hj => by rw [← hu3, rv_wR, if_neg (fun q => hj q.2)]; exact smw.2.2.2 j
        have f4 : rv_ u3 w 1 = x42 := by rw [← hu3, rv_wR, if_pos ⟨rfl, rfl⟩]
        have hL : ∀ x ∈ fp1, kd_ u1 x = 17 := (WT.mem _ _ _ _ _ w1).2.1
        obtain ⟨k3, e3⟩ := WT.keep hw1 hL hkw H w3 (fun y hy => ⟨fun z => (dj4 y z).1 hy, fun q => dj2 (q ▸ hy)⟩)
        obtain ⟨k4, e4⟩ := WT.keep hw1 hL hkw H w4 (fun y hy => ⟨fun z => (dj4 y z).2 hy, fun q => dj3 (q ▸ hy)⟩)
        have hnw : w ∉ fp' := fun z => by rcases hfp' w z with z | z; (· exact dj1 z); omega
        have w1' : WT u3 n2 p x42 es' fp' ∧ ∀ e ∈ es', tx u3 e = tx u42 e := by
          have hm2 := WT.mem _ _ _ _ _ k1
          have hee : ∀ e ∈ es', En u3 e ∧ tx u3 e = tx u42 e := fun y hy => by
            have en := (hm2.1 y hy).1
            have := en.1.same (H2 y (fun z => by rw [z] at en; have := en.2; omega)) (H2 (y + 1) (fun z => by have := en.1.2.2.1; rw [z] at this; omega))
            exact ⟨⟨this.1, by rw [(H2 y (fun z => by rw [z] at en; have := en.2; omega)).1]; exact en.2⟩, this.2⟩
          exact ⟨WT.frame _ _ _ _ _ k1 (fun y hy => H2 y (fun z => hnw (z ▸ hy))) hee, fun y hy => (hee y hy).2⟩
        have ent3 := Ent.keep hw1 hL hkw H hent
        have txn : ∀ y ∈ es', (y ∈ es1 ∧ tx u3 y = tx u1 y) ∨ (y = e ∧ tx u3 y = p ++ x :: q') := fun y hy => by
          have en : ∀ y, En u1 y → tx u3 y = tx u1 y := fun y h => (En.keep hw1 hL hkw H h).2
          rcases (hE y).mp hy with z | z
          · exact Or.inl ⟨z, en y ((WT.mem _ _ _ _ _ w1).1 y z).1⟩
          · exact Or.inr ⟨z, by rw [z, en e he1]; exact hs1⟩
        have hh := WT.build (u3 := u3) (w := w) (p := p) (es1 := es') (es2 := es2) (es3 := es3) (es4 := es4) (fp1 := fp') (fp3 := fp3) (fp4 := fp4) (n1 := n2) (n3 := n') (n4 := n') f1 (by rw [f2]; exact v0) (by rw [f2]; exact v1) (by rw [f4]; exact w1'.1) (by rw [f2, f3 2 (by decide)]; exact k3) (by rw [f3 3 (by decide)]; exact k4) (by rw [f2, f3 4 (by decide)]; exact ent3) (hne.resolve_right (by omega)) ⟨hnw, dj2, dj3, fun y hy => ⟨fun z => by rcases hfp' y hy with q | q; (· exact (dj4 y q).1 z); exact absurd (hwl hw1 w3 y z) (by omega), fun z => by rcases hfp' y hy with q | q; (· exact (dj4 y q).2 z); exact absurd (hwl hw1 w4 y z) (by omega)⟩, dj5⟩ (fun y hy => by rw [f2]; rcases txn y hy with ⟨z, z2⟩ | ⟨z, z2⟩; (· rw [z2]; exact lo y z); exact ⟨x, q', z2, by omega⟩) (fun y hy => by rw [f2, (e4 y hy).2]; exact hi4 y hy)
        refine ⟨⟨_, _, _, hh, fun y => ?_, fun y hy => ?_⟩, ?_, fun a ha hna => ?_⟩
        · show _ ↔ (y ∈ es ∨ y = e)
          rw [← hmem y]
          simp only [List.mem_append, hE y]
          constructor
          · intro z; rcases z with (z | z) | z | z | z
            all_goals simp [z]
          · intro z; rcases z with (z | z | z | z) | z
            all_goals simp [z]
        · simp only [List.mem_cons, List.mem_append] at hy
          have hq : y ∈ w :: (fp1 ++ (fp3 ++ fp4)) ∨ sz_ u1 ≤ y := by
            simp only [List.mem_cons, List.mem_append]
            rcases hy with z | z | z | z
            · simp [z]
            · rcases hfp' y z with z | z
              · simp [z]
              · exact Or.inr z
            · simp [z]
            · simp [z]
          rcases hq with z | z
          · exact hfp y z
          · exact Or.inr (by have := hF.1; omega)
        · rw [← hu3]
          exact (hF.tr hF2).tr (Fr.wR (fun _ => hw2))
        · have hwf := hfp w (by simp)
          exact (hsm a ha hna).tr (H a (by have := hF.1; omega) (fun z => by rcases hfp a (by simp [z]) with z2 | z2; (· exact hna z2); omega) (fun z => by rw [z] at ha hna; rcases hwf with z2 | z2; (· exact hna z2); omega))
    refine z_aload_n ho dX12_plant_0 rfl ?_
    refine z_ifnonnull (tgt := 20) ho dX12_plant_1 (by decide) (fun c1 => ?_) (fun c1 => ?_)
    · obtain ⟨n', hn', hkw, v0, v1, es1, es2, es3, es4, fp1, fp3, fp4, w1, w3, w4, hent, rfl, rfl, hne, dj, lo, hi4⟩ := WT.node h c1
      refine z_aload_n ho dX12_plant_20 rfl ?_
      refine z_astore_n ho dX12_plant_21 (Nat.le_of_ble_eq_true rfl) rfl ?_
      exact mid u w0 n' 0 es1 es2 es3 es4 fp1 fp3 fp4 c1 hkw v0 v1 w1 w3 w4 hent dj lo hi4 (fun y => Iff.rfl) (fun y _ => rfl) (Fr.rf _ u) (fun a _ _ => Sm.rf u a) (fun y hy => Or.inl hy) (Or.inl hne) (by omega) (Or.inl ⟨rfl, by omega⟩)
    · subst c1
      obtain ⟨rfl, rfl⟩ := h.of0 hw
      refine nX12_28 ho dX12_plant_4 (by omega) (by omega) ?_
      refine z_dup ho dX12_plant_7 rfl ?_
      refine z_aload_n ho dX12_plant_8 rfl ?_
      refine gX12_51 ho dX12_plant_9 (by rw [kd_al, if_neg (by omega)]; exact he.2) ?_
      refine z_iload_n ho dX12_plant_12 rfl ?_
      refine z_cald ho dX12_plant_13 (by rw [rv_al, if_neg (by omega), rk, kd_al, if_neg (by omega)]; exact ck) (by omega) (by rw [rv_al, if_neg (by omega), rk, ln_al, if_neg (by omega), lk]; omega) ?_
      refine kX12_52 ho hN (c_Way_init _ _ (by rw [kd_al, if_pos rfl]) (by rw [rv_al, if_neg (by omega), rk, iv_al, if_neg (by omega), hx]; omega) (by rw [rv_al, if_neg (by omega), rk, iv_al, if_neg (by omega), hx]; omega)) dX12_plant_14 (by have := hw.2.2; omega) (by omega) (Nat.le_of_ble_eq_true rfl) (by omega) (by omega) (fun u14 h14 => ?_)
      obtain rfl := h14
      have ex : iv_ (al_ u 17 0) (rv_ (al_ u 17 0) e 0) i = x := by rw [rv_al, if_neg (by omega), rk, iv_al, if_neg (by omega), hx]
      rw [ex]
      refine z_goto (tgt := 21) ho dX12_plant_17 (by decide) ?_
      refine z_astore_n ho dX12_plant_21 (Nat.le_of_ble_eq_true rfl) rfl ?_
      generalize hu1 : wI_ (al_ u 17 0) (sz_ u) 0 x = u1
      have r0 : ∀ j, rv_ u1 (sz_ u) j = 0 := fun j => by rw [← hu1]; simp [sz_wI, kd_wI, ln_wI, iv_wI, rv_wI, sz_wR, kd_wR, ln_wR, iv_wR, rv_wR, sz_al, kd_al, ln_al, iv_al, rv_al]
      have i0 : iv_ u1 (sz_ u) 0 = x := by rw [← hu1]; simp [sz_wI, kd_wI, ln_wI, iv_wI, rv_wI, sz_wR, kd_wR, ln_wR, iv_wR, rv_wR, sz_al, kd_al, ln_al, iv_al, rv_al]
      have hsm : ∀ a, a < sz_ u → Sm u u1 a := fun a ha => by rw [← hu1]; exact (Sm.al (by omega)).tr (Sm.wI (by omega))
      refine mid u1 (sz_ u) 0 1 [] [] [] [] [] [] [] (by have := hw.2.2; omega) (by rw [← hu1]; simp [sz_wI, kd_wI, ln_wI, iv_wI, rv_wI, sz_wR, kd_wR, ln_wR, iv_wR, rv_wR, sz_al, kd_al, ln_al, iv_al, rv_al]) (by rw [i0]; omega) (by rw [i0]; omega) (by rw [r0]; exact WT.nul _ _ _) (by rw [r0]; exact WT.nul _ _ _) (by rw [r0]; exact WT.nul _ _ _) (by rw [r0]; exact Or.inl ⟨rfl, rfl⟩) ⟨by simp, by simp, by simp, by simp, by simp⟩ (fun y hy => by simp at hy) (fun y hy => by simp at hy) (fun y => by simp) (fun y hy => by simp at hy) (by rw [← hu1]; exact Fr.al.nI (Or.inl (Nat.le_refl _))) (fun a ha _ => hsm a ha) (fun y hy => Or.inr (by simp at hy; omega)) (Or.inr i0.symm) (by omega) (Or.inr ⟨rfl, i0.symm⟩)
