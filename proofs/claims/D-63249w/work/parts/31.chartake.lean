set_option maxRecDepth 100000
/-! ===== CharTree: join, take ===== -/
/-- the end of the chain of high ways -/
def RrN (u : Mem) : Nat → Nat → Nat → Prop
  | 0, _, _ => False
  | n + 1, w, z => (rv_ u w 3 = 0 ∧ w = z) ∨ (rv_ u w 3 ≠ 0 ∧ RrN u n (rv_ u w 3) z)
def Rr (u : Mem) (w z : Nat) : Prop := ∃ n, RrN u n w z
theorem Rr.stop {u : Mem} {w : Nat} (h : rv_ u w 3 = 0) : Rr u w w := ⟨1, Or.inl ⟨h, rfl⟩⟩
theorem Rr.step {u : Mem} {w z : Nat} (h : rv_ u w 3 ≠ 0) (h' : Rr u (rv_ u w 3) z) : Rr u w z := by
  obtain ⟨n, h'⟩ := h'
  exact ⟨n + 1, Or.inr ⟨h, h'⟩⟩
theorem Rr.case {u : Mem} {w z : Nat} (h : Rr u w z) : (rv_ u w 3 = 0 ∧ w = z) ∨ (rv_ u w 3 ≠ 0 ∧ Rr u (rv_ u w 3) z) := by
  obtain ⟨n, h⟩ := h
  cases n with
  | zero => exact h.elim
  | succ n =>
    rcases h with h | ⟨h1, h2⟩
    · exact Or.inl h
    · exact Or.inr ⟨h1, n, h2⟩
theorem WT.hang {u : Mem} {m hh z : Nat} {p : List Int} {c : Int} {es4 fp4 : List Nat} (hw : Wf u) (w4 : WT u m p hh es4 fp4) (hi : ∀ e ∈ es4, ∃ d s, tx u e = p ++ d :: s ∧ c < d) :
    ∀ (n w : Nat) (es fp : List Nat), WT u n p w es fp → w ≠ 0 → Rr u w z → (∀ e ∈ es, ∃ d s, tx u e = p ++ d :: s ∧ d < c) → (∀ x ∈ fp, x ∉ fp4) → z ∈ fp ∧ ∃ n' fp', WT (wR_ u z 3 hh) n' p w (es ++ es4) fp' ∧ ∀ x ∈ fp', x ∈ fp ∨ x ∈ fp4 := by
  intro n
  induction n with
  | zero => rintro w es fp ⟨rfl, -⟩ h0; exact absurd rfl h0
  | succ n ih =>
    intro w es fp h h0 hr hlo hdj
    obtain ⟨n', hn', hkw, v0, v1, es1, es2, es3, es5, fp1, fp3, fp5, w1, w3, w5, hent, rfl, rfl, hne, dj, lo, hi5⟩ := WT.node h h0
    obtain rfl : n = n' := by omega
    obtain ⟨dj1, dj2, dj3, dj4, dj5⟩ := dj
    have hcw : iv_ u w 0 < c := by
      obtain ⟨y, hy⟩ := List.exists_mem_of_ne_nil _ hne
      obtain ⟨d, s, h1, h2⟩ := hlo y (by simp only [List.mem_append] at hy ⊢; rcases hy with z | z <;> simp [z])
      rcases List.mem_append.mp hy with q | q
      · rcases hent with ⟨-, rfl⟩ | ⟨-, h3, rfl⟩
        · simp at q
        · rw [List.mem_singleton.mp q, h3] at h1
          have := (app_hd h1).1
          omega
      · obtain ⟨-, d', s', h3⟩ := (WT.mem _ _ _ _ _ w3).1 y q
        rw [h3, List.append_assoc] at h1
        have := (app_hd h1).1
        omega
    rcases hr.case with ⟨hz, rfl⟩ | ⟨hz, hr⟩
    · obtain ⟨rfl, rfl⟩ : es5 = [] ∧ fp5 = [] := by rw [hz] at w5; exact w5.of0 hw
      refine ⟨by simp, ?_⟩
      generalize hu3 : wR_ u w 3 hh = u3
      have H : ∀ a, a < sz_ u → a ∉ ([] : List Nat) → a ≠ w → Sm u u3 a := fun a _ _ hne => by rw [← hu3]; exact Sm.wR hne
      have f1 : kd_ u3 w = 17 := by rw [← hu3]; exact hkw
      have f2 : iv_ u3 w 0 = iv_ u w 0 := by rw [← hu3]; rfl
      have f3 : ∀ j : Int, j ≠ 3 → rv_ u3 w j = rv_ u w j := fun j hj => by rw [← hu3, rv_wR, if_neg (fun q => hj q.2)]
      have f4 : rv_ u3 w 3 = hh := by rw [← hu3, rv_wR, if_pos ⟨rfl, rfl⟩]
      have hL : ∀ x ∈ ([] : List Nat), kd_ u x = 17 := fun x hx => by simp at hx
      obtain ⟨k1, e1⟩ := WT.keep hw hL hkw H w1 (fun y hy => ⟨by simp, fun q => dj1 (q ▸ hy)⟩)
      obtain ⟨k3, e3⟩ := WT.keep hw hL hkw H w3 (fun y hy => ⟨by simp, fun q => dj2 (q ▸ hy)⟩)
      obtain ⟨k4, e4⟩ := WT.keep hw hL hkw H w4 (fun y hy => ⟨by simp, fun q => hdj w (by simp) (q ▸ hy)⟩)
      have ent3 := Ent.keep hw hL hkw H hent
      have hb := WT.build (u3 := u3) (w := w) (p := p) (es1 := es1) (es2 := es2) (es3 := es3) (es4 := es4) (fp1 := fp1) (fp3 := fp3) (fp4 := fp4) f1 (by rw [f2]; exact v0) (by rw [f2]; exact v1) (by rw [f3 1 (by decide)]; exact k1) (by rw [f2, f3 2 (by decide)]; exact k3) (by rw [f4]; exact k4) (by rw [f2, f3 4 (by decide)]; exact ent3) hne ⟨dj1, dj2, hdj w (by simp), fun y hy => ⟨(dj4 y hy).1, hdj y (by simp [hy])⟩, fun y hy => hdj y (by simp [hy])⟩ (fun y hy => by rw [f2, (e1 y hy).2]; exact lo y hy) (fun y hy => by
        rw [f2, (e4 y hy).2]
        obtain ⟨d, s, h1, h2⟩ := hi y hy
        exact ⟨d, s, h1, by omega⟩)
      refine ⟨_, _, by simpa [List.append_assoc] using hb, fun x hx => ?_⟩
      simp only [List.mem_cons, List.mem_append] at hx ⊢
      rcases hx with q | q | q | q <;> simp [q]
    · obtain ⟨hzm, n2, fp', k4', hf'⟩ := ih _ es5 fp5 w5 hz hr (fun e he => hlo e (by simp [he])) (fun x hx => hdj x (by simp [hx]))
      refine ⟨by simp [hzm], ?_⟩
      have hzk := (WT.mem _ _ _ _ _ w5).2.1 z hzm
      generalize hu3 : wR_ u z 3 hh = u3 at k4'
      have H : ∀ a, a < sz_ u → a ∉ ([] : List Nat) → a ≠ z → Sm u u3 a := fun a _ _ hne => by rw [← hu3]; exact Sm.wR hne
      have hwz : w ≠ z := fun q => dj3 (q ▸ hzm)
      have sw : Sm u u3 w := by rw [← hu3]; exact Sm.wR hwz
      have hL : ∀ x ∈ ([] : List Nat), kd_ u x = 17 := fun x hx => by simp at hx
      obtain ⟨k1, e1⟩ := WT.keep hw hL hzk H w1 (fun y hy => ⟨by simp, fun q => (dj4 y hy).2 (q ▸ hzm)⟩)
      obtain ⟨k3, e3⟩ := WT.keep hw hL hzk H w3 (fun y hy => ⟨by simp, fun q => dj5 y hy (q ▸ hzm)⟩)
      have ent3 := Ent.keep hw hL hzk H hent
      have en : ∀ y, En u y → tx u3 y = tx u y := fun y h => (En.keep hw hL hzk H h).2
      have hb := WT.build (u3 := u3) (w := w) (p := p) (es1 := es1) (es2 := es2) (es3 := es3) (es4 := es5 ++ es4) (fp1 := fp1) (fp3 := fp3) (fp4 := fp') (by rw [sw.1]; exact hkw) (by rw [sw.2.2.1]; exact v0) (by rw [sw.2.2.1]; exact v1) (by rw [sw.2.2.2]; exact k1) (by rw [sw.2.2.1, sw.2.2.2]; exact k3) (by rw [sw.2.2.2]; exact k4') (by rw [sw.2.2.1, sw.2.2.2]; exact ent3) hne ⟨dj1, dj2, fun q => by rcases hf' w q with z | z; (· exact dj3 z); exact hdj w (by simp) z, fun y hy => ⟨(dj4 y hy).1, fun q => by rcases hf' y q with z | z; (· exact (dj4 y hy).2 z); exact hdj y (by simp [hy]) z⟩, fun y hy q => by rcases hf' y q with z | z; (· exact dj5 y hy z); exact hdj y (by simp [hy]) z⟩ (fun y hy => by rw [sw.2.2.1, (e1 y hy).2]; exact lo y hy) (fun y hy => by
        rw [sw.2.2.1]
        rcases List.mem_append.mp hy with q | q
        · rw [en y ((WT.mem _ _ _ _ _ w5).1 y q).1]; exact hi5 y q
        · rw [en y ((WT.mem _ _ _ _ _ w4).1 y q).1]
          obtain ⟨d, s, h1, h2⟩ := hi y q
          exact ⟨d, s, h1, by omega⟩)
      refine ⟨_, _, by simpa [List.append_assoc] using hb, fun x hx => ?_⟩
      simp only [List.mem_cons, List.mem_append] at hx ⊢
      rcases hx with q | q | q | q
      · simp [q]
      · simp [q]
      · simp [q]
      · rcases hf' x q with q | q <;> simp [q]
theorem c_CT_join (l : Launch) (u : Mem) {n m lw hh : Nat} {p : List Int} {c : Int} {es1 es4 fp1 fp4 : List Nat} (w1 : WT u n p lw es1 fp1) (w4 : WT u m p hh es4 fp4) (lo : ∀ e ∈ es1, ∃ d s, tx u e = p ++ d :: s ∧ d < c) (hi : ∀ e ∈ es4, ∃ d s, tx u e = p ++ d :: s ∧ c < d) (hdj : ∀ x ∈ fp1, x ∉ fp4) :
    Mt_ l yX12_join cX12_join 3 (some (.object "KeyHall$Way")) 0 0 0 [aR lw, aR hh] u (qR fun r u' => (∃ n' fp', WT u' n' p r (es1 ++ es4) fp' ∧ ∀ x ∈ fp', x ∈ fp1 ∨ x ∈ fp4) ∧ Fr Q17 u u' ∧ sz_ u' = sz_ u ∧ ∀ a, a ∉ fp1 → Sm u u' a) := by
  refine Mt_of (by decide) (Nat.le_of_ble_eq_true rfl) (fun X ho hX hN hI => ?_)
  subst hX
  show Z X 0 [some (aR lw), some (aR hh), none] [] u 0 0
  refine z_wf (fun hw => ?_)
  refine z_aload_n ho dX12_join_0 rfl ?_
  refine z_ifnonnull (tgt := 6) ho dX12_join_1 (by decide) (fun c1 => ?_) (fun c1 => ?_)
  · 
    refine z_aload_n ho dX12_join_6 rfl ?_
    refine z_astore_n ho dX12_join_7 (Nat.le_of_ble_eq_true rfl) rfl ?_
    have key : ∀ (n' w : Nat) (es' fp' : List Nat), WT u n' p w es' fp' → w ≠ 0 → (∀ z, Rr u w z → Rr u lw z) → Z X 8 [some (aR lw), some (aR hh), some (aR w)] [] u 0 0 := by
      intro n'
      induction n' with
      | zero => rintro w es' fp' ⟨rfl, -⟩ h0; exact absurd rfl h0
      | succ n' ih =>
        intro w es' fp' h h0 hr
        obtain ⟨n2, hn2, hkw, v0, v1, es1', es2', es3', es5, fp1', fp3', fp5, w1', w3', w5, hent, -⟩ := WT.node h h0
        obtain rfl : n' = n2 := by omega
        refine z_aload_n ho dX12_join_8 rfl ?_
        refine gX12_35 ho dX12_join_9 hkw ?_
        refine z_ifnull (tgt := 23) ho dX12_join_12 (by decide) (fun c12 => ?_) (fun c12 => ?_)
        · 
          refine z_aload_n ho dX12_join_23 rfl ?_
          refine z_aload_n ho dX12_join_24 rfl ?_
          refine pX12_35 ho dX12_join_25 hkw  ?_
          refine z_aload_n ho dX12_join_28 rfl ?_
          refine r_R ho dX12_join_29 (Nat.le_of_ble_eq_true rfl) (Nat.le_of_ble_eq_true rfl) ?_
          obtain ⟨hz, n3, fp', hwt, hf⟩ := WT.hang hw w4 hi n lw es1 fp1 w1 c1 (hr w (Rr.stop c12)) lo hdj
          have hkz := (WT.mem _ _ _ _ _ w1).2.1 w hz
          exact ⟨⟨n3, fp', hwt, hf⟩, Fr.wR (fun _ => hkz), rfl, fun a ha => Sm.wR (fun q => ha (q ▸ hz))⟩
        · 
          refine z_aload_n ho dX12_join_15 rfl ?_
          refine gX12_35 ho dX12_join_16 hkw ?_
          refine z_astore_n ho dX12_join_19 (Nat.le_of_ble_eq_true rfl) rfl ?_
          refine z_goto (tgt := 8) ho dX12_join_20 (by decide) ?_
          exact ih _ _ _ w5 c12 (fun z hz => hr z (Rr.step c12 hz))
    exact key n lw es1 fp1 w1 c1 (fun z h => h)
  · 
    refine z_aload_n ho dX12_join_4 rfl ?_
    refine r_R ho dX12_join_5 (Nat.le_of_ble_eq_true rfl) (Nat.le_of_ble_eq_true rfl) ?_
    subst c1
    obtain ⟨rfl, rfl⟩ := w1.of0 hw
    exact ⟨⟨m, fp4, w4, fun x hx => Or.inr hx⟩, Fr.rf _ u, rfl, fun a _ => Sm.rf u a⟩
theorem c_CT_take_2 (l : Launch) {e : Nat} : ∀ (n : Nat) (u : Mem) (w : Nat) (p q : List Int) (es fp : List Nat) (i : Nat), WT u n p w es fp → e ∈ es → tx u e = p ++ q → i = p.length →
    Mt_ l yX12_take_2 cX12_take_2 3 (some (.object "KeyHall$Way")) n 0 0 [aR w, aR e, aI (i : Int)] u (qR fun r u' => (∃ n' es' fp', WT u' n' p r es' fp' ∧ (∀ x, x ∈ es' ↔ x ∈ es ∧ x ≠ e) ∧ ∀ x ∈ fp', x ∈ fp) ∧ Fr Q17 u u' ∧ sz_ u' = sz_ u ∧ ∀ a, a ∉ fp → Sm u u' a) := by
  intro n
  induction n with
  | zero => rintro u w p q es fp i ⟨rfl, rfl, rfl⟩ he; simp at he
  | succ n ih =>
    intro u w p q es fp i h hin hs hi
    obtain ⟨he, d0, s0, hds⟩ := (WT.mem _ _ _ _ _ h).1 e hin
    have hq : q = d0 :: s0 := List.append_cancel_left (hs.symm.trans hds)
    have hw0 : w ≠ 0 ∨ w = 0 := by omega
    have hlen := he.1.tx_len
    have h8 := he.1.Tx.1
    have hpl : (p.length : Int) + q.length = iv_ u e 1 := by rw [← hlen, hs]; simp
    have hql : 0 < q.length := by rw [hq]; simp
    obtain ⟨q', hq'⟩ := he.1.split hs (i := (i : Int)) (by omega) (by omega)
    clear hq hds
    subst hq'
    simp only [List.length_cons] at hpl hql
    have hke := he.1
    obtain ⟨kk, rk, ck, lk, nk, nk8, vk⟩ := hke
    have hvx := vk i (by omega) (by omega)
    generalize hx : iv_ u (e + 1) i = x at *
    refine Mt_of (by decide) (Nat.le_of_ble_eq_true rfl) (fun X ho hX hN hI => ?_)
    subst hX
    show Z X 0 [some (aR w), some (aR e), some (aI i)] [] u 0 0
    refine z_wf (fun hw => ?_)
    have hw0 : w ≠ 0 := fun z => by subst z; rw [(h.of0 hw).1] at hin; simp at hin
    have hnd0 := sorted_nd (WT.sorted _ _ _ _ _ h)
    obtain ⟨n', hn', hkw, v0, v1, es1, es2, es3, es4, fp1, fp3, fp4, w1, w3, w4, hent, rfl, rfl, hne, dj, lo, hi4⟩ := WT.node h hw0
    obtain rfl : n = n' := by omega
    have hwsz := (hw.1 w (by omega)).1
    obtain ⟨dj1, dj2, dj3, dj4, dj5⟩ := dj
    obtain ⟨pl1, pl4, pl2, pl3, pi1, pi4, pi2, pi3⟩ := WN.pos w3 hent lo hi4 hin hs
    -- the end
    have fin : ∀ (u3 : Mem) (n1 n3 n4 : Nat) (es1' es2' es3' es4' fp1' fp3' fp4' : List Nat), kd_ u3 w = 17 → 0 ≤ iv_ u3 w 0 → iv_ u3 w 0 < 65536 → WT u3 n1 p (rv_ u3 w 1) es1' fp1' → WT u3 n3 (p ++ [iv_ u3 w 0]) (rv_ u3 w 2) es3' fp3' → WT u3 n4 p (rv_ u3 w 3) es4' fp4' → Ent u3 (rv_ u3 w 4) (p ++ [iv_ u3 w 0]) es2' → Dj w fp1' fp3' fp4' →
        (∀ e ∈ es1', ∃ d s, tx u3 e = p ++ d :: s ∧ d < iv_ u3 w 0) → (∀ e ∈ es4', ∃ d s, tx u3 e = p ++ d :: s ∧ iv_ u3 w 0 < d) → (∀ y, y ∈ es1' ++ (es2' ++ (es3' ++ es4')) ↔ y ∈ es1 ++ (es2 ++ (es3 ++ es4)) ∧ y ≠ e) → Fr Q17 u u3 → sz_ u3 = sz_ u → (∀ a, a ∉ w :: (fp1 ++ (fp3 ++ fp4)) → Sm u u3 a) → (∀ y ∈ fp1', y ∈ fp1) → (∀ y ∈ fp3', y ∈ fp3) → (∀ y ∈ fp4', y ∈ fp4) →
        Z X 91 [some (aR w), some (aR e), some (aI (i : Int))] [] u3 0 0 := by
      intro u3 n1 n3 n4 es1' es2' es3' es4' fp1' fp3' fp4' k v0 v1 w1' w3' w4' hent' dj' lo' hi' hmem hF hz hsm s1 s3 s4
      refine z_wf (fun hw3 => ?_)
      have node : es2' ++ es3' ≠ [] → Z X 119 [some (aR w), some (aR e), some (aI (i : Int))] [] u3 0 0 := by
        intro hne'
        refine z_aload_n ho dX12_take_2_119 rfl ?_
        refine r_R ho dX12_take_2_120 (Nat.le_of_ble_eq_true rfl) (Nat.le_of_ble_eq_true rfl) ?_
        refine ⟨⟨_, _, _, WT.build k v0 v1 w1' w3' w4' hent' hne' dj' lo' hi', hmem, fun x hx => ?_⟩, hF, hz, hsm⟩
        simp only [List.mem_cons, List.mem_append] at hx ⊢
        rcases hx with q | q | q | q
        · exact Or.inl q
        · exact Or.inr (Or.inl (s1 x q))
        · exact Or.inr (Or.inr (Or.inl (s3 x q)))
        · exact Or.inr (Or.inr (Or.inr (s4 x q)))
      refine z_aload_n ho dX12_take_2_91 rfl ?_
      refine gX12_38 ho dX12_take_2_92 k ?_
      refine z_ifnonnull (tgt := 119) ho dX12_take_2_95 (by decide) (fun c95 => ?_) (fun c95 => ?_)
      · refine node (fun z => ?_)
        rcases hent' with ⟨z2, -⟩ | ⟨-, -, z2⟩
        · exact c95 z2
        · rw [z2] at z; simp at z
      · 
        refine z_aload_n ho dX12_take_2_98 rfl ?_
        refine gX12_41 ho dX12_take_2_99 k ?_
        refine z_ifnonnull (tgt := 119) ho dX12_take_2_102 (by decide) (fun c102 => ?_) (fun c102 => ?_)
        · refine node (fun z => ?_)
          exact ((WT.mem _ _ _ _ _ w3').2.2 c102).1 (List.append_eq_nil_iff.mp z).2
        · have z2 : es2' = [] := by
            rcases hent' with ⟨-, z2⟩ | ⟨z2, -⟩
            · exact z2
            · exact absurd c95 (z2.ne0 hw3)
          have z3 : es3' = [] := by rw [c102] at w3'; exact (w3'.of0 hw3).1
          subst z2 z3
          refine z_aload_n ho dX12_take_2_105 rfl ?_
          refine gX12_32 ho dX12_take_2_106 k ?_
          refine z_aload_n ho dX12_take_2_109 rfl ?_
          refine gX12_35 ho dX12_take_2_110 k ?_
          refine kX12_58 ho hN (c_CT_join _ _ w1' w4' lo' hi' (fun x hx => (dj'.2.2.2.1 x hx).2)) dX12_take_2_113 (by omega) (Nat.le_of_ble_eq_true rfl) (Nat.le_of_ble_eq_true rfl) (Nat.le_of_ble_eq_true rfl) (fun x113 u113 h113 => ?_)
          obtain ⟨⟨n9, fp9, h9, hf9⟩, hF9, hz9, hs9⟩ := h113
          refine z_goto (tgt := 120) ho dX12_take_2_116 (by decide) ?_
          refine r_R ho dX12_take_2_120 (Nat.le_of_ble_eq_true rfl) (Nat.le_of_ble_eq_true rfl) ?_
          refine ⟨⟨n9, _, fp9, h9, fun y => by rw [← hmem y]; simp, fun x hx => ?_⟩, hF.tr hF9, by omega, fun a ha => ?_⟩
          · simp only [List.mem_cons, List.mem_append]
            rcases hf9 x hx with q | q
            · exact Or.inr (Or.inl (s1 x q))
            · exact Or.inr (Or.inr (Or.inr (s4 x q)))
          · exact (hsm a ha).tr (hs9 a (fun q => ha (by simp [s1 a q])))
    refine z_aload_n ho dX12_take_2_0 rfl ?_
    refine gX12_51 ho dX12_take_2_1 he.2 ?_
    refine z_iload_n ho dX12_take_2_4 rfl ?_
    refine z_cald ho dX12_take_2_5 (by rw [rk]; exact ck) (by omega) (by rw [rk, lk]; omega) ?_
    refine z_aload_n ho dX12_take_2_6 rfl ?_
    refine gX12_27 ho dX12_take_2_7 hkw ?_
    refine z_icmp_ge (tgt := 29) ho dX12_take_2_10 (by decide) (by rw [rk, hx]; unfold rng; omega) (by unfold rng; omega) (fun c10 => ?_) (fun c10 => ?_)
    · 
      refine z_aload_n ho dX12_take_2_29 rfl ?_
      refine gX12_51 ho dX12_take_2_30 he.2 ?_
      refine z_iload_n ho dX12_take_2_33 rfl ?_
      refine z_cald ho dX12_take_2_34 (by rw [rk]; exact ck) (by omega) (by rw [rk, lk]; omega) ?_
      refine z_aload_n ho dX12_take_2_35 rfl ?_
      refine gX12_27 ho dX12_take_2_36 hkw ?_
      refine z_icmp_le (tgt := 58) ho dX12_take_2_39 (by decide) (by rw [rk, hx]; unfold rng; omega) (by unfold rng; omega) (fun c39 => ?_) (fun c39 => ?_)
      · rw [rk, hx] at c10 c39
        have hxe : x = iv_ u w 0 := by omega
        refine z_iload_n ho dX12_take_2_58 rfl ?_
        refine z_iconst ho dX12_take_2_59 ?_
        refine z_iadd ho dX12_take_2_60 ?_
        refine z_aload_n ho dX12_take_2_61 rfl ?_
        refine gX12_44 ho dX12_take_2_62 he.2 ?_
        refine z_icmp_ge (tgt := 86) ho dX12_take_2_65 (by decide) (by unfold rng; omega) (by unfold rng; omega) (fun c65 => ?_) (fun c65 => ?_)
        · have hq' : q' = [] := List.eq_nil_of_length_eq_zero (by omega)
          obtain ⟨pe, pe2⟩ := pl2 hxe hq'
          refine z_aload_n ho dX12_take_2_86 rfl ?_
          refine z_null ho dX12_take_2_87 ?_
          refine pX12_38 ho dX12_take_2_88 hkw  ?_
          generalize hu3 : wR_ u w 4 0 = u3
          have H : ∀ a, a < sz_ u → a ∉ ([] : List Nat) → a ≠ w → Sm u u3 a := fun a _ _ hne => by rw [← hu3]; exact Sm.wR hne
          have f1 : kd_ u3 w = 17 := by rw [← hu3]; exact hkw
          have f2 : iv_ u3 w 0 = iv_ u w 0 := by rw [← hu3]; rfl
          have f3 : ∀ j : Int, j ≠ 4 → rv_ u3 w j = rv_ u w j := fun j hj => by rw [← hu3, rv_wR, if_neg (fun q => hj q.2)]
          have f4 : rv_ u3 w 4 = 0 := by rw [← hu3, rv_wR, if_pos ⟨rfl, rfl⟩]
          have hL : ∀ x ∈ ([] : List Nat), kd_ u x = 17 := fun x hx => by simp at hx
          obtain ⟨k1, e1⟩ := WT.keep hw hL hkw H w1 (fun y hy => ⟨by simp, fun q => dj1 (q ▸ hy)⟩)
          obtain ⟨k3, e3⟩ := WT.keep hw hL hkw H w3 (fun y hy => ⟨by simp, fun q => dj2 (q ▸ hy)⟩)
          obtain ⟨k4, e4⟩ := WT.keep hw hL hkw H w4 (fun y hy => ⟨by simp, fun q => dj3 (q ▸ hy)⟩)
          refine fin u3 n n n es1 [] es3 es4 fp1 fp3 fp4 f1 (by rw [f2]; exact v0) (by rw [f2]; exact v1) (by rw [f3 1 (by decide)]; exact k1) (by rw [f2, f3 2 (by decide)]; exact k3) (by rw [f3 3 (by decide)]; exact k4) (by rw [f4]; exact Or.inl ⟨rfl, rfl⟩) ⟨dj1, dj2, dj3, dj4, dj5⟩ (fun y hy => by rw [f2, (e1 y hy).2]; exact lo y hy) (fun y hy => by rw [f2, (e4 y hy).2]; exact hi4 y hy) (fun y => ?_) (by rw [← hu3]; exact Fr.wR (fun _ => hkw)) (by rw [← hu3]; rfl) (fun a ha => by rw [← hu3]; exact Sm.wR (fun z => ha (by rw [z]; simp))) (fun y h => h) (fun y h => h) (fun y h => h)
          rw [pe2] at pe ⊢
          have hee := List.mem_singleton.mp pe
          rw [← hee]
          simp only [List.mem_append, List.mem_singleton, List.not_mem_nil, false_or]
          constructor
          · rintro (z | z | z)
            · exact ⟨Or.inl z, fun z2 => by have := pi1 (z2 ▸ z); omega⟩
            · exact ⟨Or.inr (Or.inr (Or.inl z)), fun z2 => (pi3 (z2 ▸ z)).2 hq'⟩
            · exact ⟨Or.inr (Or.inr (Or.inr z)), fun z2 => by have := pi4 (z2 ▸ z); omega⟩
          · rintro ⟨z | z | z | z, z2⟩
            · exact Or.inl z
            · exact absurd z z2
            · exact Or.inr (Or.inl z)
            · exact Or.inr (Or.inr z)
        · have hq' : q' ≠ [] := fun z => by rw [z] at hpl; simp at hpl; omega
          have he3 := pl3 hxe hq'
          refine z_aload_n ho dX12_take_2_68 rfl ?_
          refine z_aload_n ho dX12_take_2_69 rfl ?_
          refine gX12_41 ho dX12_take_2_70 hkw ?_
          refine z_aload_n ho dX12_take_2_73 rfl ?_
          refine z_iload_n ho dX12_take_2_74 rfl ?_
          refine z_iconst ho dX12_take_2_75 ?_
          refine z_iadd ho dX12_take_2_76 ?_
          refine kX12_55 ho hN (ih u (rv_ u w 2) (p ++ [iv_ u w 0]) q' es3 fp3 (i + 1) w3 he3 (by rw [hs, hxe]; simp) (by simp [hi])) dX12_take_2_77 (by omega) (Nat.le_of_ble_eq_true rfl) (Nat.le_of_ble_eq_true rfl) (Nat.le_of_ble_eq_true rfl) (fun x77 u77 h77 => ?_)
          obtain ⟨h2, hF2, hz2, hsm2⟩ := h77
          obtain ⟨n2, es', fp', k3, hE, hfp'⟩ := h2
          have hw2 : kd_ u77 w = 17 := by rw [(hF2.2 w hwsz).1]; exact hkw
          refine pX12_41 ho dX12_take_2_80 hw2  ?_
          refine z_goto (tgt := 91) ho dX12_take_2_83 (by decide) ?_
          have smw : Sm u u77 w := hsm2 w dj2
          generalize hu3 : wR_ u77 w 2 x77 = u3
          have H2 : ∀ a, a ≠ w → Sm u77 u3 a := fun a hne => by rw [← hu3]; exact Sm.wR hne
          have H : ∀ a, a < sz_ u → a ∉ fp3 → a ≠ w → Sm u u3 a := fun a ha hna hne => (hsm2 a hna).tr (H2 a hne)
          have f1 : kd_ u3 w = 17 := by rw [← hu3]; exact hw2
          have f2 : iv_ u3 w 0 = iv_ u w 0 := by rw [← hu3]; exact smw.2.2.1 0
          have f3 : ∀ j : Int, j ≠ 2 → rv_ u3 w j = rv_ u w j := fun j hj => by rw [← hu3, rv_wR, if_neg (fun q => hj q.2)]; exact smw.2.2.2 j
          have f4 : rv_ u3 w 2 = x77 := by rw [← hu3, rv_wR, if_pos ⟨rfl, rfl⟩]
          have hL : ∀ x ∈ fp3, kd_ u x = 17 := (WT.mem _ _ _ _ _ w3).2.1
          obtain ⟨k1, e1⟩ := WT.keep hw hL hkw H w1 (fun y hy => ⟨(dj4 y hy).1, fun q => dj1 (q ▸ hy)⟩)
          obtain ⟨k4, e4⟩ := WT.keep hw hL hkw H w4 (fun y hy => ⟨fun z => dj5 y z hy, fun q => dj3 (q ▸ hy)⟩)
          have hnw : w ∉ fp' := fun z => dj2 (hfp' w z)
          have w3' : WT u3 n2 (p ++ [iv_ u w 0]) x77 es' fp' := by
            have hm2 := WT.mem _ _ _ _ _ k3
            have hee : ∀ e ∈ es', En u3 e ∧ tx u3 e = tx u77 e := fun y hy => by
              have en := (hm2.1 y hy).1
              have := en.1.same (H2 y (fun z => by rw [z] at en; have := en.2; omega)) (H2 (y + 1) (fun z => by have := en.1.2.2.1; rw [z] at this; omega))
              exact ⟨⟨this.1, by rw [(H2 y (fun z => by rw [z] at en; have := en.2; omega)).1]; exact en.2⟩, this.2⟩
            exact WT.frame _ _ _ _ _ k3 (fun y hy => H2 y (fun z => hnw (z ▸ hy))) hee
          have ent3 := Ent.keep hw hL hkw H hent
          have txn : ∀ y ∈ es', y ∈ es3 ∧ tx u3 y = tx u y := fun y hy => by
            have z := ((hE y).mp hy).1
            exact ⟨z, (En.keep hw hL hkw H ((WT.mem _ _ _ _ _ w3).1 y z).1).2⟩
          refine fin u3 n n2 n es1 es2 es' es4 fp1 fp' fp4 f1 (by rw [f2]; exact v0) (by rw [f2]; exact v1) (by rw [f3 1 (by decide)]; exact k1) (by rw [f2, f4]; exact w3') (by rw [f3 3 (by decide)]; exact k4) (by rw [f2, f3 4 (by decide)]; exact ent3) ⟨dj1, hnw, dj3, fun y hy => ⟨fun z => (dj4 y hy).1 (hfp' y z), (dj4 y hy).2⟩, fun y hy => dj5 y (hfp' y hy)⟩ (fun y hy => by rw [f2, (e1 y hy).2]; exact lo y hy) (fun y hy => by rw [f2, (e4 y hy).2]; exact hi4 y hy) (fun y => ?_) (by rw [← hu3]; exact hF2.tr (Fr.wR (fun _ => hw2))) (by rw [← hu3]; exact hz2) (fun a ha => ?_) (fun y h => h) hfp' (fun y h => h)
          · simp only [List.mem_append, hE y]
            constructor
            · rintro (z | z | ⟨z, z2⟩ | z)
              · exact ⟨Or.inl z, fun z2 => by have := pi1 (z2 ▸ z); omega⟩
              · exact ⟨Or.inr (Or.inl z), fun z2 => by exact hq' (pi2 (z2 ▸ z)).2⟩
              · exact ⟨Or.inr (Or.inr (Or.inl z)), z2⟩
              · exact ⟨Or.inr (Or.inr (Or.inr z)), fun z2 => by have := pi4 (z2 ▸ z); omega⟩
            · rintro ⟨z | z | z | z, z2⟩
              · exact Or.inl z
              · exact Or.inr (Or.inl z)
              · exact Or.inr (Or.inr (Or.inl ⟨z, z2⟩))
              · exact Or.inr (Or.inr (Or.inr z))
          · simp only [List.mem_cons, List.mem_append] at ha
            rw [← hu3]
            exact (hsm2 a (fun z => ha (by simp [z]))).tr (Sm.wR (fun z => ha (Or.inl z)))
      · rw [rk, hx] at c10 c39
        have he4 := pl4 (by omega)
        refine z_aload_n ho dX12_take_2_42 rfl ?_
        refine z_aload_n ho dX12_take_2_43 rfl ?_
        refine gX12_35 ho dX12_take_2_44 hkw ?_
        refine z_aload_n ho dX12_take_2_47 rfl ?_
        refine z_iload_n ho dX12_take_2_48 rfl ?_
        refine kX12_55 ho hN (ih u (rv_ u w 3) p (x :: q') es4 fp4 i w4 he4 hs hi) dX12_take_2_49 (by omega) (Nat.le_of_ble_eq_true rfl) (Nat.le_of_ble_eq_true rfl) (Nat.le_of_ble_eq_true rfl) (fun x49 u49 h49 => ?_)
        obtain ⟨h2, hF2, hz2, hsm2⟩ := h49
        obtain ⟨n2, es', fp', k4, hE, hfp'⟩ := h2
        have hw2 : kd_ u49 w = 17 := by rw [(hF2.2 w hwsz).1]; exact hkw
        refine pX12_35 ho dX12_take_2_52 hw2  ?_
        refine z_goto (tgt := 91) ho dX12_take_2_55 (by decide) ?_
        have smw : Sm u u49 w := hsm2 w dj3
        generalize hu3 : wR_ u49 w 3 x49 = u3
        have H2 : ∀ a, a ≠ w → Sm u49 u3 a := fun a hne => by rw [← hu3]; exact Sm.wR hne
        have H : ∀ a, a < sz_ u → a ∉ fp4 → a ≠ w → Sm u u3 a := fun a ha hna hne => (hsm2 a hna).tr (H2 a hne)
        have f1 : kd_ u3 w = 17 := by rw [← hu3]; exact hw2
        have f2 : iv_ u3 w 0 = iv_ u w 0 := by rw [← hu3]; exact smw.2.2.1 0
        have f3 : ∀ j : Int, j ≠ 3 → rv_ u3 w j = rv_ u w j := fun j hj => by rw [← hu3, rv_wR, if_neg (fun q => hj q.2)]; exact smw.2.2.2 j
        have f4 : rv_ u3 w 3 = x49 := by rw [← hu3, rv_wR, if_pos ⟨rfl, rfl⟩]
        have hL : ∀ x ∈ fp4, kd_ u x = 17 := (WT.mem _ _ _ _ _ w4).2.1
        obtain ⟨k1, e1⟩ := WT.keep hw hL hkw H w1 (fun y hy => ⟨(dj4 y hy).2, fun q => dj1 (q ▸ hy)⟩)
        obtain ⟨k3, e3⟩ := WT.keep hw hL hkw H w3 (fun y hy => ⟨dj5 y hy, fun q => dj2 (q ▸ hy)⟩)
        have hnw : w ∉ fp' := fun z => dj3 (hfp' w z)
        have w4' : WT u3 n2 p x49 es' fp' := by
          have hm2 := WT.mem _ _ _ _ _ k4
          have hee : ∀ e ∈ es', En u3 e ∧ tx u3 e = tx u49 e := fun y hy => by
            have en := (hm2.1 y hy).1
            have := en.1.same (H2 y (fun z => by rw [z] at en; have := en.2; omega)) (H2 (y + 1) (fun z => by have := en.1.2.2.1; rw [z] at this; omega))
            exact ⟨⟨this.1, by rw [(H2 y (fun z => by rw [z] at en; have := en.2; omega)).1]; exact en.2⟩, this.2⟩
          exact WT.frame _ _ _ _ _ k4 (fun y hy => H2 y (fun z => hnw (z ▸ hy))) hee
        have ent3 := Ent.keep hw hL hkw H hent
        have txn : ∀ y ∈ es', y ∈ es4 ∧ tx u3 y = tx u y := fun y hy => by
          have z := ((hE y).mp hy).1
          exact ⟨z, (En.keep hw hL hkw H ((WT.mem _ _ _ _ _ w4).1 y z).1).2⟩
        refine fin u3 n n n2 es1 es2 es3 es' fp1 fp3 fp' f1 (by rw [f2]; exact v0) (by rw [f2]; exact v1) (by rw [f3 1 (by decide)]; exact k1) (by rw [f2, f3 2 (by decide)]; exact k3) (by rw [f4]; exact w4') (by rw [f2, f3 4 (by decide)]; exact ent3) ⟨dj1, dj2, hnw, fun y hy => ⟨(dj4 y hy).1, fun z => (dj4 y hy).2 (hfp' y z)⟩, fun y hy z => dj5 y hy (hfp' y z)⟩ (fun y hy => by rw [f2, (e1 y hy).2]; exact lo y hy) (fun y hy => by rw [f2, (txn y hy).2]; exact hi4 y (txn y hy).1) (fun y => ?_) (by rw [← hu3]; exact hF2.tr (Fr.wR (fun _ => hw2))) (by rw [← hu3]; exact hz2) (fun a ha => ?_) (fun y h => h) (fun y h => h) hfp'
        · simp only [List.mem_append, hE y]
          constructor
          · rintro (z | z | z | ⟨z, z2⟩)
            · exact ⟨Or.inl z, fun z2 => by have := pi1 (z2 ▸ z); omega⟩
            · exact ⟨Or.inr (Or.inl z), fun z2 => by have := pi2 (z2 ▸ z); omega⟩
            · exact ⟨Or.inr (Or.inr (Or.inl z)), fun z2 => by have := pi3 (z2 ▸ z); omega⟩
            · exact ⟨Or.inr (Or.inr (Or.inr z)), z2⟩
          · rintro ⟨z | z | z | z, z2⟩
            · exact Or.inl z
            · exact Or.inr (Or.inl z)
            · exact Or.inr (Or.inr (Or.inl z))
            · exact Or.inr (Or.inr (Or.inr ⟨z, z2⟩))
        · simp only [List.mem_cons, List.mem_append] at ha
          rw [← hu3]
          exact (hsm2 a (fun z => ha (by simp [z]))).tr (Sm.wR (fun z => ha (Or.inl z)))
    · rw [rk, hx] at c10
      have he1 := pl1 (by omega)
      refine z_aload_n ho dX12_take_2_13 rfl ?_
      refine z_aload_n ho dX12_take_2_14 rfl ?_
      refine gX12_32 ho dX12_take_2_15 hkw ?_
      refine z_aload_n ho dX12_take_2_18 rfl ?_
      refine z_iload_n ho dX12_take_2_19 rfl ?_
      refine kX12_55 ho hN (ih u (rv_ u w 1) p (x :: q') es1 fp1 i w1 he1 hs hi) dX12_take_2_20 (by omega) (Nat.le_of_ble_eq_true rfl) (Nat.le_of_ble_eq_true rfl) (Nat.le_of_ble_eq_true rfl) (fun x20 u20 h20 => ?_)
      obtain ⟨h2, hF2, hz2, hsm2⟩ := h20
      obtain ⟨n2, es', fp', k1, hE, hfp'⟩ := h2
      have hw2 : kd_ u20 w = 17 := by rw [(hF2.2 w hwsz).1]; exact hkw
      refine pX12_32 ho dX12_take_2_23 hw2  ?_
      refine z_goto (tgt := 91) ho dX12_take_2_26 (by decide) ?_
      have smw : Sm u u20 w := hsm2 w dj1
      generalize hu3 : wR_ u20 w 1 x20 = u3
      have H2 : ∀ a, a ≠ w → Sm u20 u3 a := fun a hne => by rw [← hu3]; exact Sm.wR hne
      have H : ∀ a, a < sz_ u → a ∉ fp1 → a ≠ w → Sm u u3 a := fun a ha hna hne => (hsm2 a hna).tr (H2 a hne)
      have f1 : kd_ u3 w = 17 := by rw [← hu3]; exact hw2
      have f2 : iv_ u3 w 0 = iv_ u w 0 := by rw [← hu3]; exact smw.2.2.1 0
      have f3 : ∀ j : Int, j ≠ 1 → rv_ u3 w j = rv_ u w j := fun j hj => by rw [← hu3, rv_wR, if_neg (fun q => hj q.2)]; exact smw.2.2.2 j
      have f4 : rv_ u3 w 1 = x20 := by rw [← hu3, rv_wR, if_pos ⟨rfl, rfl⟩]
      have hL : ∀ x ∈ fp1, kd_ u x = 17 := (WT.mem _ _ _ _ _ w1).2.1
      obtain ⟨k3, e3⟩ := WT.keep hw hL hkw H w3 (fun y hy => ⟨fun z => (dj4 y z).1 hy, fun q => dj2 (q ▸ hy)⟩)
      obtain ⟨k4, e4⟩ := WT.keep hw hL hkw H w4 (fun y hy => ⟨fun z => (dj4 y z).2 hy, fun q => dj3 (q ▸ hy)⟩)
      have hnw : w ∉ fp' := fun z => dj1 (hfp' w z)
      have w1' : WT u3 n2 p x20 es' fp' := by
        have hm2 := WT.mem _ _ _ _ _ k1
        have hee : ∀ e ∈ es', En u3 e ∧ tx u3 e = tx u20 e := fun y hy => by
          have en := (hm2.1 y hy).1
          have := en.1.same (H2 y (fun z => by rw [z] at en; have := en.2; omega)) (H2 (y + 1) (fun z => by have := en.1.2.2.1; rw [z] at this; omega))
          exact ⟨⟨this.1, by rw [(H2 y (fun z => by rw [z] at en; have := en.2; omega)).1]; exact en.2⟩, this.2⟩
        exact WT.frame _ _ _ _ _ k1 (fun y hy => H2 y (fun z => hnw (z ▸ hy))) hee
      have ent3 := Ent.keep hw hL hkw H hent
      have txn : ∀ y ∈ es', y ∈ es1 ∧ tx u3 y = tx u y := fun y hy => by
        have z := ((hE y).mp hy).1
        exact ⟨z, (En.keep hw hL hkw H ((WT.mem _ _ _ _ _ w1).1 y z).1).2⟩
      refine fin u3 n2 n n es' es2 es3 es4 fp' fp3 fp4 f1 (by rw [f2]; exact v0) (by rw [f2]; exact v1) (by rw [f4]; exact w1') (by rw [f2, f3 2 (by decide)]; exact k3) (by rw [f3 3 (by decide)]; exact k4) (by rw [f2, f3 4 (by decide)]; exact ent3) ⟨hnw, dj2, dj3, fun y hy => dj4 y (hfp' y hy), dj5⟩ (fun y hy => by rw [f2, (txn y hy).2]; exact lo y (txn y hy).1) (fun y hy => by rw [f2, (e4 y hy).2]; exact hi4 y hy) (fun y => ?_) (by rw [← hu3]; exact hF2.tr (Fr.wR (fun _ => hw2))) (by rw [← hu3]; exact hz2) (fun a ha => ?_) hfp' (fun y h => h) (fun y h => h)
      · simp only [List.mem_append, hE y]
        constructor
        · rintro (⟨z, z2⟩ | z | z | z)
          · exact ⟨Or.inl z, z2⟩
          · exact ⟨Or.inr (Or.inl z), fun z2 => by have := pi2 (z2 ▸ z); omega⟩
          · exact ⟨Or.inr (Or.inr (Or.inl z)), fun z2 => by have := pi3 (z2 ▸ z); omega⟩
          · exact ⟨Or.inr (Or.inr (Or.inr z)), fun z2 => by have := pi4 (z2 ▸ z); omega⟩
        · rintro ⟨z | z | z | z, z2⟩
          · exact Or.inl ⟨z, z2⟩
          · exact Or.inr (Or.inl z)
          · exact Or.inr (Or.inr (Or.inl z))
          · exact Or.inr (Or.inr (Or.inr z))
      · simp only [List.mem_cons, List.mem_append] at ha
        rw [← hu3]
        exact (hsm2 a (fun z => ha (by simp [z]))).tr (Sm.wR (fun z => ha (Or.inl z)))
