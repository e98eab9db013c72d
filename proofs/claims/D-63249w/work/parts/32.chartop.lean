set_option maxRecDepth 100000
/-! ===== CharTree: put, take ===== -/
theorem Q17_12 (t : Nat) : ∀ a K, Q17 a K → Q12 t a K := fun _ _ h => Or.inl h
theorem c_CT_put (l : Launch) (u : Mem) {t e : Nat} {S : List Nat} (hT : CT u t S) (hS : S.length ≤ 64) (he : En u e) (hnew : ∀ x ∈ S, tx u x ≠ tx u e) : Mt_ l yX12_put cX12_put 2 none 600 8 40 [aR t, aR e] u (qV fun u' => (∀ S', (∀ x, x ∈ S' ↔ x ∈ S ∨ x = e) → CT u' t S') ∧ Fr (Q12 t) u u' ∧ ∀ i, iv_ u' t i = iv_ u t i) := by
  obtain ⟨es0, es, fp, hent, hwt, hiff, hso⟩ := hT.fit hS
  have ht := hT.1
  have hlen := he.1.tx_len
  refine Mt_of (by decide) (Nat.le_of_ble_eq_true rfl) (fun X ho hX hN hI => ?_)
  subst hX
  show Z X 0 [some (aR t), some (aR e)] [] u 0 0
  refine z_wf (fun hw => ?_)
  have htl := hw.1 t (by omega)
  have hn := he.1.2.2.2.2
  refine z_aload_n ho dX12_put_0 rfl ?_
  refine gX12_44 ho dX12_put_1 he.2 ?_
  refine z_if_ne (tgt := 15) ho dX12_put_4 (by decide) (by unfold rng; omega) (fun c4 => ?_) (fun c4 => ?_)
  · have hne : tx u e ≠ [] := fun z => by rw [z] at hlen; simp at hlen; omega
    refine z_aload_n ho dX12_put_15 rfl ?_
    refine z_aload_n ho dX12_put_16 rfl ?_
    refine gX12_19 ho dX12_put_17 ht ?_
    refine z_aload_n ho dX12_put_20 rfl ?_
    refine z_iconst ho dX12_put_21 ?_
    refine kX12_47 ho hN (c_plant _ 520 512 _ _ [] (tx u e) es fp 0 (by omega) hwt he rfl rfl hne (fun x hx => hnew x ((hiff x).mpr (by simp [hx])))) dX12_put_22 (Nat.le_of_ble_eq_true rfl) (Nat.le_of_ble_eq_true rfl) (Nat.le_of_ble_eq_true rfl) (Nat.le_of_ble_eq_true rfl) (fun x22 u22 h22 => ?_)
    obtain ⟨hr0, ⟨n', es', fp', hw', hE, hfp⟩, hF, hsm⟩ := h22
    refine pX12_19 ho dX12_put_25 (by rw [(hF.2 t htl.1).1]; exact ht)  ?_
    refine r_V ho dX12_put_28 (Nat.le_of_ble_eq_true rfl) (Nat.le_of_ble_eq_true rfl) ?_
    have st : Sm u u22 t := (hF.2 t htl.1).2.2 (by unfold Q17; rw [ht]; decide)
    have H : ∀ a, a ≠ t → Sm u22 (wR_ u22 t 2 x22) a := fun a ha => Sm.wR ha
    have hmw := WT.mem _ _ _ _ _ hw'
    have kt : kd_ u22 t = 12 := by rw [st.1]; exact ht
    have keepE : ∀ y, En u22 y → En (wR_ u22 t 2 x22) y ∧ tx (wR_ u22 t 2 x22) y = tx u22 y := fun y hy => by
      have s1 := H y (fun z => by rw [z] at hy; have := hy.2; omega)
      have := hy.1.same s1 (H (y + 1) (fun z => by have := hy.1.2.2.1; rw [z] at this; omega))
      exact ⟨⟨this.1, by rw [s1.1]; exact hy.2⟩, this.2⟩
    refine ⟨fun S' hS' => ⟨kt, n', es0, es', fp', ?_, ?_, fun x => ?_⟩, (hF.mono (Q17_12 t)).nR (Or.inr (Or.inr rfl)), fun i => st.2.2.1 i⟩
    · rw [rv_wR, if_neg (fun z => absurd z.2 (by decide)), st.2.2.2]
      rcases hent with h | ⟨h1, h2, h⟩
      · exact Or.inl h
      · obtain ⟨a1, a2⟩ := hF.En hw h1 (by unfold Q17; decide) (by unfold Q17; decide)
        obtain ⟨b1, b2⟩ := keepE _ a1
        exact Or.inr ⟨b1, by rw [b2, a2]; exact h2, h⟩
    · rw [rv_wR, if_pos ⟨rfl, rfl⟩]
      exact WT.frame _ _ _ _ _ hw' (fun x hx => H x (fun z => by have := hmw.2.1 x hx; rw [z] at this; omega)) (fun x hx => keepE x (hmw.1 x hx).1)
    · rw [hS' x, hiff x]
      simp only [List.mem_append, hE x]
      constructor
      · rintro ((q | q) | q)
        · exact Or.inl q
        · exact Or.inr (Or.inl q)
        · exact Or.inr (Or.inr q)
      · rintro (q | q | q)
        · exact Or.inl (Or.inl q)
        · exact Or.inl (Or.inr q)
        · exact Or.inr q
  · have hz : tx u e = [] := List.eq_nil_of_length_eq_zero (by omega)
    refine z_aload_n ho dX12_put_7 rfl ?_
    refine z_aload_n ho dX12_put_8 rfl ?_
    refine pX12_13 ho dX12_put_9 ht  ?_
    refine z_goto (tgt := 28) ho dX12_put_12 (by decide) ?_
    refine r_V ho dX12_put_28 (Nat.le_of_ble_eq_true rfl) (Nat.le_of_ble_eq_true rfl) ?_
    have H : ∀ a, a ≠ t → Sm u (wR_ u t 3 e) a := fun a ha => Sm.wR ha
    have hmw := WT.mem _ _ _ _ _ hwt
    have keepE : ∀ y, En u y → En (wR_ u t 3 e) y ∧ tx (wR_ u t 3 e) y = tx u y := fun y hy => by
      have s1 := H y (fun z => by rw [z] at hy; have := hy.2; omega)
      have := hy.1.same s1 (H (y + 1) (fun z => by have := hy.1.2.2.1; rw [z] at this; omega))
      exact ⟨⟨this.1, by rw [s1.1]; exact hy.2⟩, this.2⟩
    refine ⟨fun S' hS' => ⟨ht, 512, [e], es, fp, ?_, ?_, fun x => ?_⟩, Fr.wR (fun _ => Or.inr rfl), fun i => rfl⟩
    · rw [rv_wR, if_pos ⟨rfl, rfl⟩]
      have := keepE e he
      exact Or.inr ⟨this.1, by rw [this.2]; exact hz, rfl⟩
    · rw [rv_wR, if_neg (fun z => absurd z.2 (by decide))]
      exact WT.frame _ _ _ _ _ hwt (fun x hx => H x (fun z => by have := hmw.2.1 x hx; rw [z] at this; omega)) (fun x hx => keepE x (hmw.1 x hx).1)
    · have e0 : es0 = [] := by
        rcases hent with ⟨-, h⟩ | ⟨-, h1, h⟩
        · exact h
        · exact absurd (by rw [h1, hz]) (hnew (rv_ u t 3) ((hiff _).mpr (by rw [h]; simp)))
      rw [hS' x, hiff x, e0]
      simp [or_comm]
theorem c_CT_take (l : Launch) (u : Mem) {t e : Nat} {S : List Nat} (hT : CT u t S) (hS : S.length ≤ 64) (he : e ∈ S) : Mt_ l yX12_take cX12_take 2 none 600 0 0 [aR t, aR e] u (qV fun u' => (∀ S', (∀ x, x ∈ S' ↔ x ∈ S ∧ x ≠ e) → CT u' t S') ∧ Fr (Q12 t) u u' ∧ ∀ i, iv_ u' t i = iv_ u t i) := by
  obtain ⟨es0, es, fp, hent, hwt, hiff, hso⟩ := hT.fit hS
  have ht := hT.1
  have hmw := WT.mem _ _ _ _ _ hwt
  have hen : En u e := by
    rcases List.mem_append.mp ((hiff e).mp he) with q | q
    · rcases hent with ⟨-, h⟩ | ⟨h1, -, h⟩
      · rw [h] at q; simp at q
      · rw [h] at q; rw [List.mem_singleton.mp q]; exact h1
    · exact (hmw.1 e q).1
  have hlen := hen.1.tx_len
  have t0 : ∀ x ∈ es0, tx u x = [] := fun x hx => by
    rcases hent with ⟨-, h⟩ | ⟨-, h1, h⟩
    · rw [h] at hx; simp at hx
    · rw [h] at hx; rw [List.mem_singleton.mp hx]; exact h1
  have t1 : ∀ x ∈ es, tx u x ≠ [] := fun x hx => by
    obtain ⟨-, d, s, hh⟩ := hmw.1 x hx
    rw [hh]; simp
  refine Mt_of (by decide) (Nat.le_of_ble_eq_true rfl) (fun X ho hX hN hI => ?_)
  subst hX
  show Z X 0 [some (aR t), some (aR e)] [] u 0 0
  refine z_wf (fun hw => ?_)
  have htl := hw.1 t (by omega)
  have hn := hen.1.2.2.2.2
  refine z_aload_n ho dX12_take_0 rfl ?_
  refine gX12_44 ho dX12_take_1 hen.2 ?_
  refine z_if_ne (tgt := 15) ho dX12_take_4 (by decide) (by unfold rng; omega) (fun c4 => ?_) (fun c4 => ?_)
  · have hne : tx u e ≠ [] := fun z => by rw [z] at hlen; simp at hlen; omega
    have hin : e ∈ es := by
      rcases List.mem_append.mp ((hiff e).mp he) with q | q
      · exact absurd (t0 e q) hne
      · exact q
    refine z_aload_n ho dX12_take_15 rfl ?_
    refine z_aload_n ho dX12_take_16 rfl ?_
    refine gX12_19 ho dX12_take_17 ht ?_
    refine z_aload_n ho dX12_take_20 rfl ?_
    refine z_iconst ho dX12_take_21 ?_
    refine kX12_55 ho hN (c_CT_take_2 _ 512 _ _ [] (tx u e) es fp 0 hwt hin rfl rfl) dX12_take_22 (Nat.le_of_ble_eq_true rfl) (Nat.le_of_ble_eq_true rfl) (Nat.le_of_ble_eq_true rfl) (Nat.le_of_ble_eq_true rfl) (fun x22 u22 h22 => ?_)
    obtain ⟨⟨n', es', fp', hw', hE, hfp⟩, hF, hz, hsm⟩ := h22
    refine pX12_19 ho dX12_take_25 (by rw [(hF.2 t htl.1).1]; exact ht)  ?_
    refine r_V ho dX12_take_28 (Nat.le_of_ble_eq_true rfl) (Nat.le_of_ble_eq_true rfl) ?_
    have st : Sm u u22 t := (hF.2 t htl.1).2.2 (by unfold Q17; rw [ht]; decide)
    have H : ∀ a, a ≠ t → Sm u22 (wR_ u22 t 2 x22) a := fun a ha => Sm.wR ha
    have hmw' := WT.mem _ _ _ _ _ hw'
    have kt : kd_ u22 t = 12 := by rw [st.1]; exact ht
    have keepE : ∀ y, En u22 y → En (wR_ u22 t 2 x22) y ∧ tx (wR_ u22 t 2 x22) y = tx u22 y := fun y hy => by
      have s1 := H y (fun z => by rw [z] at hy; have := hy.2; omega)
      have := hy.1.same s1 (H (y + 1) (fun z => by have := hy.1.2.2.1; rw [z] at this; omega))
      exact ⟨⟨this.1, by rw [s1.1]; exact hy.2⟩, this.2⟩
    refine ⟨fun S' hS' => ⟨kt, n', es0, es', fp', ?_, ?_, fun x => ?_⟩, (hF.mono (Q17_12 t)).nR (Or.inr (Or.inr rfl)), fun i => st.2.2.1 i⟩
    · rw [rv_wR, if_neg (fun z => absurd z.2 (by decide)), st.2.2.2]
      rcases hent with h | ⟨h1, h2, h⟩
      · exact Or.inl h
      · obtain ⟨a1, a2⟩ := hF.En hw h1 (by unfold Q17; decide) (by unfold Q17; decide)
        obtain ⟨b1, b2⟩ := keepE _ a1
        exact Or.inr ⟨b1, by rw [b2, a2]; exact h2, h⟩
    · rw [rv_wR, if_pos ⟨rfl, rfl⟩]
      exact WT.frame _ _ _ _ _ hw' (fun x hx => H x (fun z => by have := hmw'.2.1 x hx; rw [z] at this; omega)) (fun x hx => keepE x (hmw'.1 x hx).1)
    · rw [hS' x, hiff x]
      simp only [List.mem_append, hE x]
      constructor
      · rintro ⟨q | q, q2⟩
        · exact Or.inl q
        · exact Or.inr ⟨q, q2⟩
      · rintro (q | ⟨q, q2⟩)
        · exact ⟨Or.inl q, fun z => hne (by rw [← z]; exact t0 x q)⟩
        · exact ⟨Or.inr q, q2⟩
  · have hz : tx u e = [] := List.eq_nil_of_length_eq_zero (by omega)
    refine z_aload_n ho dX12_take_7 rfl ?_
    refine z_null ho dX12_take_8 ?_
    refine pX12_13 ho dX12_take_9 ht  ?_
    refine z_goto (tgt := 28) ho dX12_take_12 (by decide) ?_
    refine r_V ho dX12_take_28 (Nat.le_of_ble_eq_true rfl) (Nat.le_of_ble_eq_true rfl) ?_
    have H : ∀ a, a ≠ t → Sm u (wR_ u t 3 0) a := fun a ha => Sm.wR ha
    have keepE : ∀ y, En u y → En (wR_ u t 3 0) y ∧ tx (wR_ u t 3 0) y = tx u y := fun y hy => by
      have s1 := H y (fun z => by rw [z] at hy; have := hy.2; omega)
      have := hy.1.same s1 (H (y + 1) (fun z => by have := hy.1.2.2.1; rw [z] at this; omega))
      exact ⟨⟨this.1, by rw [s1.1]; exact hy.2⟩, this.2⟩
    refine ⟨fun S' hS' => ⟨ht, 512, [], es, fp, ?_, ?_, fun x => ?_⟩, Fr.wR (fun _ => Or.inr rfl), fun i => rfl⟩
    · rw [rv_wR, if_pos ⟨rfl, rfl⟩]
      exact Or.inl ⟨rfl, rfl⟩
    · rw [rv_wR, if_neg (fun z => absurd z.2 (by decide))]
      exact WT.frame _ _ _ _ _ hwt (fun x hx => H x (fun z => by have := hmw.2.1 x hx; rw [z] at this; omega)) (fun x hx => keepE x (hmw.1 x hx).1)
    · have e0 : es0 = [e] := by
        rcases List.mem_append.mp ((hiff e).mp he) with q | q
        · rcases hent with ⟨-, h⟩ | ⟨-, -, h⟩
          · rw [h] at q; simp at q
          · rw [h] at q ⊢; rw [List.mem_singleton.mp q]
        · exact absurd hz (t1 e q)
      rw [hS' x, hiff x, e0]
      simp only [List.mem_append, List.mem_singleton, List.not_mem_nil, false_or]
      constructor
      · rintro ⟨q | q, q2⟩
        · exact absurd q q2
        · exact q
      · intro q
        exact ⟨Or.inr q, fun z => t1 x q (by rw [z]; exact hz)⟩
/-- the frame of a CharTree -/
theorem CT.frame {u u' : Mem} {t : Nat} {S : List Nat} (hT : CT u t S) (hs : ∀ a, (kd_ u a = 17 ∨ a = t) → kd_ u' a = kd_ u a ∧ (∀ i, rv_ u' a i = rv_ u a i) ∧ (kd_ u a = 17 → Sm u u' a)) (he : ∀ e ∈ S, En u e → En u' e ∧ tx u' e = tx u e) : CT u' t S := by
  obtain ⟨ht, n, es0, es, fp, hent, hwt, hiff⟩ := hT
  have h1 := hs t (Or.inr rfl)
  have hm := WT.mem _ _ _ _ _ hwt
  refine ⟨by rw [h1.1]; exact ht, n, es0, es, fp, ?_, ?_, hiff⟩
  · rw [h1.2.1]
    rcases hent with h | ⟨h2, h3, rfl⟩
    · exact Or.inl h
    · have := he _ ((hiff _).mpr (by simp)) h2
      exact Or.inr ⟨this.1, by rw [this.2]; exact h3, rfl⟩
  · rw [h1.2.1]
    exact WT.frame _ _ _ _ _ hwt (fun x hx => (hs x (Or.inl (hm.2.1 x hx))).2.2 (hm.2.1 x hx)) (fun e h => he e ((hiff e).mpr (by simp [h])) (hm.1 e h).1)
