set_option maxRecDepth 100000
/-! ===== Scroll.insert, delete, undo, sum ===== -/
def ST (E : Nat) (u : Mem) (sc a1 a3 a4 a5 a6 : Nat) (T : List Int) (Os : List (List Int)) : Prop := SX u sc a1 a3 a4 a5 a6 ∧ RO E u (rv_ u sc 0) T ∧ T.length ≤ 120 ∧ OL E u a1 Os ∧ iv_ u sc 2 = Os.length ∧ Os.length ≤ 20 ∧ ∀ O ∈ Os, O.length ≤ 120
theorem ST.grow {E : Nat} {u v : Mem} {sc a1 a3 a4 a5 a6 : Nat} {T : List Int} {Os : List (List Int)} (h : ST E u sc a1 a3 a4 a5 a6 T Os) (hw : Wf u) (hs : ∀ b, b < sz_ u → Sm u v b) : ST E v sc a1 a3 a4 a5 a6 T Os := by
  obtain ⟨h1, h2, h3, h4, h5, h6, h7⟩ := h
  have hl := h1.lt hw
  have ss := hs sc hl.1
  have s1 := hs a1 hl.2.1
  have fr : ∀ {x : Nat} {S : List Int}, RO E u x S → RO E v x S := fun hx => RO.frame (fun a ha => hs a (hw.1 a (by omega)).1) (fun a ha _ => hs a (hw.1 a (by omega)).1) hx
  refine ⟨h1.same (fun a ha => ?_) (fun i _ => ss.2.2.2 i), by rw [ss.2.2.2]; exact fr h2, h3, fun j O hj => by rw [s1.2.2.2]; exact fr (h4 j O hj), by rw [ss.2.2.1]; exact h5, h6, h7⟩
  have : a < sz_ u := by rcases ha with z | z | z | z | z | z <;> rw [z] <;> omega
  exact ⟨(hs a this).1, (hs a this).2.1⟩
theorem psh_mem {Os : List (List Int)} {T O : List Int} (h : O ∈ psh Os T) : O ∈ Os ∨ O = T := by
  unfold psh at h
  rcases List.mem_append.mp h with q | q
  · left
    split at q
    · exact List.mem_of_mem_drop q
    · exact q
  · exact Or.inr (List.mem_singleton.mp q)
/-- what an edit leaves -/
def qEd (E : Nat) (u : Mem) (sc a1 a3 a4 a5 a6 : Nat) (R : List Int) (Ps : List (List Int)) (x : Int) (v : Mem) : Prop := x = R.length ∧ ST E v sc a1 a3 a4 a5 a6 R Ps ∧ iv_ v sc 7 = 0 ∧ sz_ u ≤ sz_ v ∧ Fr (sQ sc a1 a3 a4 a5 a6) u v
theorem qEd_of {E : Nat} {u u1 v : Mem} {sc a1 a3 a4 a5 a6 : Nat} {T R : List Int} {Os : List (List Int)} {x : Int} (hst : ST E u1 sc a1 a3 a4 a5 a6 T Os) (hz : sz_ u ≤ sz_ u1) (hs : ∀ b, b < sz_ u → Sm u u1 b) (hR : R.length ≤ 120) (h : x = R.length ∧ SX v sc a1 a3 a4 a5 a6 ∧ RO E v (rv_ v sc 0) R ∧ OL E v a1 (psh Os T) ∧ iv_ v sc 2 = (psh Os T).length ∧ iv_ v sc 7 = 0 ∧ sz_ v = sz_ u1 ∧ Fr (sQ sc a1 a3 a4 a5 a6) u1 v) : qEd E u sc a1 a3 a4 a5 a6 R (psh Os T) x v := by
  obtain ⟨h1, h2, h3, h4, h5, h6, h7, h8⟩ := h
  obtain ⟨-, -, q3, -, -, q6, q7⟩ := hst
  refine ⟨h1, ⟨h2, h3, hR, h4, h5, (psh_len Os T q6).1, fun O hO => ?_⟩, h6, by omega, ?_⟩
  · rcases psh_mem hO with z | z
    · exact q7 O z
    · rw [z]; exact q3
  · have hF : Fr (sQ sc a1 a3 a4 a5 a6) u u1 := ⟨hz, fun a ha => ⟨(hs a ha).1, (hs a ha).2.1, fun _ => hs a ha⟩⟩
    exact hF.tr h8
theorem c_sdelete (l : Launch) (u : Mem) {E sc a1 a3 a4 a5 a6 : Nat} {T : List Int} {Os : List (List Int)} {i k : Int} (h : ST E u sc a1 a3 a4 a5 a6 T Os) (hi : 0 ≤ i) (hik : i ≤ k) (hk : k ≤ T.length) (hE : E ≤ sz_ u) :
    Mt_ l yX10_delete cX10_delete 3 (some .int) 21 2371 14193 [aR sc, aI i, aI k] u (qI fun x v => qEd E u sc a1 a3 a4 a5 a6 (T.take i.toNat ++ T.drop k.toNat) (psh Os T) x v) := by
  refine Mt_of (by decide) (Nat.le_of_ble_eq_true rfl) (fun X ho hX hN hI => ?_)
  subst hX
  show Z X 0 [some (aR sc), some (aI i), some (aI k)] [] u 0 0
  refine z_wf (fun hw => ?_)
  have ks := h.1.1.1
  have hT := h.2.2.1
  refine z_aload_n ho dX10_delete_0 rfl ?_
  refine z_aload_n ho dX10_delete_1 rfl ?_
  refine gX10_30 ho dX10_delete_2 ks ?_
  refine z_iconst ho dX10_delete_5 ?_
  refine z_iload_n ho dX10_delete_6 rfl ?_
  refine kX10_48 ho hN (c_partO _ _ h.2.1 (by omega) hi (by omega) (by omega) (Or.inl rfl) hT hE) dX10_delete_7 (by omega) (Nat.le_of_ble_eq_true rfl) (by omega) (by omega) (fun x7 u7 h7 => ?_)
  obtain ⟨g1, g2, g3⟩ := h7
  refine z_wf (fun hw7 => ?_)
  have h7 := h.grow hw g3
  have ks7 := h7.1.1.1
  refine z_aload_n ho dX10_delete_10 rfl ?_
  refine gX10_30 ho dX10_delete_11 ks7 ?_
  refine z_iload_n ho dX10_delete_14 rfl ?_
  refine z_aload_n ho dX10_delete_15 rfl ?_
  refine kX10_45 ho hN (c_slen _ _ ks7 h7.2.1) dX10_delete_16 ks7 (by omega) (Nat.le_of_ble_eq_true rfl) (by omega) (by omega) (fun x16 u16 h16 => ?_)
  obtain ⟨rfl, rfl⟩ := h16
  refine kX10_48 ho hN (c_partO _ _ h7.2.1 (by omega) (by omega) (by omega) (by omega) (Or.inr rfl) hT (by omega)) dX10_delete_19 (by omega) (Nat.le_of_ble_eq_true rfl) (by omega) (by omega) (fun x19 u19 h19 => ?_)
  obtain ⟨f1, f2, f3⟩ := h19
  refine z_wf (fun hw19 => ?_)
  have h19 := h7.grow hw7 f3
  have g1' := RO.frame (fun a ha => f3 a (hw7.1 a (by omega)).1) (fun a ha _ => f3 a (hw7.1 a (by omega)).1) g1
  have e1 : (T.take i.toNat).drop (0 : Int).toNat = T.take i.toNat := by simp
  have e2 : (T.take (T.length : Int).toNat).drop k.toNat = T.drop k.toNat := by rw [Int.toNat_natCast, List.take_of_length_le (Nat.le_refl _)]
  rw [e1] at g1'
  rw [e2] at f1
  have hln : (T.take i.toNat ++ T.drop k.toNat).length ≤ 120 := by rw [List.length_append, List.length_take, List.length_drop]; omega
  refine kX10_65 ho hN (c_join_ _ _ g1' f1 (by rw [← List.length_append]; exact hln) (by omega)) dX10_delete_22 (by omega) (Nat.le_of_ble_eq_true rfl) (by omega) (by omega) (fun x22 u22 h22 => ?_)
  obtain ⟨p1, p2, p3⟩ := h22
  have h22 := h19.grow hw19 p3
  refine kX10_69 ho hN (c_become _ _ h22.1 h22.2.1 h22.2.2.2.1 h22.2.2.2.2.1 h22.2.2.2.2.2.1 p1) dX10_delete_25 h22.1.1.1 (by omega) (Nat.le_of_ble_eq_true rfl) (by omega) (by omega) (fun x25 u25 h25 => ?_)
  refine r_I ho dX10_delete_28 (by omega) (by omega) ?_
  exact qEd_of h22 (by omega) (fun b hb => ((g3 b hb).tr (f3 b (by omega))).tr (p3 b (by omega))) hln h25
theorem c_sinsert (l : Launch) (u : Mem) {E sc a1 a3 a4 a5 a6 k : Nat} {T : List Int} {Os : List (List Int)} {i : Int} (h : ST E u sc a1 a3 a4 a5 a6 T Os) (hk : Ky u k) (hi : 0 ≤ i) (hiT : i ≤ T.length) (hl : T.length + (tx u k).length ≤ 120) (hE : E ≤ sz_ u) :
    Mt_ l yX10_insert cX10_insert 3 (some .int) 21 2371 14193 [aR sc, aI i, aR k] u (qI fun x v => qEd E u sc a1 a3 a4 a5 a6 (T.take i.toNat ++ (tx u k ++ T.drop i.toNat)) (psh Os T) x v) := by
  refine Mt_of (by decide) (Nat.le_of_ble_eq_true rfl) (fun X ho hX hN hI => ?_)
  subst hX
  show Z X 0 [some (aR sc), some (aI i), some (aR k)] [] u 0 0
  refine z_wf (fun hw => ?_)
  have ks := h.1.1.1
  have hT := h.2.2.1
  have hkl := hk.lt hw
  have hkn := hk.tx_len
  have hn8 := hk.2.2.2.2.2.1
  refine z_aload_n ho dX10_insert_0 rfl ?_
  refine z_aload_n ho dX10_insert_1 rfl ?_
  refine gX10_30 ho dX10_insert_2 ks ?_
  refine z_iconst ho dX10_insert_5 ?_
  refine z_iload_n ho dX10_insert_6 rfl ?_
  refine kX10_48 ho hN (c_partO _ _ h.2.1 (by omega) hi (by omega) (by omega) (Or.inl rfl) hT hE) dX10_insert_7 (by omega) (Nat.le_of_ble_eq_true rfl) (by omega) (by omega) (fun x7 u7 h7 => ?_)
  obtain ⟨g1, g2, g3⟩ := h7
  refine z_wf (fun hw7 => ?_)
  have h7 := h.grow hw g3
  have hk7 := hk.same (g3 k hkl.1) (g3 (k + 1) hkl.2.1)
  have hn7 : iv_ u7 k 1 = (tx u k).length := by rw [← hk7.1.tx_len, hk7.2]
  have e1 : (T.take i.toNat).drop (0 : Int).toNat = T.take i.toNat := by simp
  rw [e1] at g1
  have go : ∀ (w : Mem) (x : Nat), RO E w x (tx u k) → (∀ b, b < sz_ u7 → Sm u7 w b) → sz_ u7 ≤ sz_ w → Wf w → Z X 22 [some (aR sc), some (aI i), some (aR k)] [aR x, aR x7, aR sc] w 1097 6563 := by
    intro w x hx hsw hzw hww
    have hwst := h7.grow hw7 hsw
    have g1' := RO.frame (fun a ha => hsw a (hw7.1 a (by omega)).1) (fun a ha _ => hsw a (hw7.1 a (by omega)).1) g1
    have hl1 : (T.take i.toNat).length ≤ T.length := by rw [List.length_take]; omega
    refine kX10_65 ho hN (c_join_ _ _ g1' hx (by omega) (by omega)) dX10_insert_22 (by omega) (Nat.le_of_ble_eq_true rfl) (by omega) (by omega) (fun x22 u22 h22 => ?_)
    obtain ⟨p1, p2, p3⟩ := h22
    refine z_wf (fun hw22 => ?_)
    have h22 := hwst.grow hww p3
    have ks22 := h22.1.1.1
    refine z_aload_n ho dX10_insert_25 rfl ?_
    refine gX10_30 ho dX10_insert_26 ks22 ?_
    refine z_iload_n ho dX10_insert_29 rfl ?_
    refine z_aload_n ho dX10_insert_30 rfl ?_
    refine kX10_45 ho hN (c_slen _ _ ks22 h22.2.1) dX10_insert_31 ks22 (by omega) (Nat.le_of_ble_eq_true rfl) (by omega) (by omega) (fun x31 u31 h31 => ?_)
    obtain ⟨rfl, rfl⟩ := h31
    refine kX10_48 ho hN (c_partO _ _ h22.2.1 (by omega) (by omega) (by omega) (by omega) (Or.inr rfl) hT (by omega)) dX10_insert_34 (by omega) (Nat.le_of_ble_eq_true rfl) (by omega) (by omega) (fun x34 u34 h34 => ?_)
    obtain ⟨f1, f2, f3⟩ := h34
    refine z_wf (fun hw34 => ?_)
    have h34 := h22.grow hw22 f3
    have p1' := RO.frame (fun a ha => f3 a (hw22.1 a (by omega)).1) (fun a ha _ => f3 a (hw22.1 a (by omega)).1) p1
    have e2 : (T.take (T.length : Int).toNat).drop i.toNat = T.drop i.toNat := by rw [Int.toNat_natCast, List.take_of_length_le (Nat.le_refl _)]
    rw [e2] at f1
    have hln : ((T.take i.toNat ++ tx u k) ++ T.drop i.toNat).length ≤ 120 := by rw [List.length_append, List.length_append, List.length_take, List.length_drop]; omega
    refine kX10_65 ho hN (c_join_ _ _ p1' f1 (by rw [← List.length_append]; exact hln) (by omega)) dX10_insert_37 (by omega) (Nat.le_of_ble_eq_true rfl) (by omega) (by omega) (fun x37 u37 h37 => ?_)
    obtain ⟨d1, d2, d3⟩ := h37
    have h37 := h34.grow hw34 d3
    rw [List.append_assoc] at d1 hln
    refine kX10_69 ho hN (c_become _ _ h37.1 h37.2.1 h37.2.2.2.1 h37.2.2.2.2.1 h37.2.2.2.2.2.1 d1) dX10_insert_40 h37.1.1.1 (by omega) (Nat.le_of_ble_eq_true rfl) (by omega) (by omega) (fun x40 u40 h40 => ?_)
    refine r_I ho dX10_insert_43 (by omega) (by omega) ?_
    exact qEd_of h37 (by omega) (fun b hb => ((((g3 b hb).tr (hsw b (by omega))).tr (p3 b (by omega))).tr (f3 b (by omega))).tr (d3 b (by omega))) hln h40
  by_cases hz : tx u k = []
  · have hn0 : iv_ u7 k 1 = 0 := by rw [hn7, hz]; rfl
    refine z_aload_n ho dX10_insert_10 rfl ?_
    refine gX10_52 ho dX10_insert_11 hk7.1.1 ?_
    refine z_iconst ho dX10_insert_14 ?_
    refine z_aload_n ho dX10_insert_15 rfl ?_
    refine gX10_58 ho dX10_insert_16 hk7.1.1 ?_
    rw [hn0]
    refine kX10_61 ho hN (c_of0 _ _ (by unfold rng; omega)) dX10_insert_19 (by omega) (Nat.le_of_ble_eq_true rfl) (by omega) (by omega) (fun x19 u19 h19 => ?_)
    obtain ⟨rfl, hx⟩ := h19
    refine z_cu (cu' := 1097) (su' := 6563) (by omega) (by omega) ?_
    exact go _ _ (Or.inl ⟨hx, hz⟩) (fun b _ => Sm.rf _ b) (Nat.le_refl _) hw7
  · have hp := List.length_pos_iff.mpr hz
    have hAL : AL u7 (k + 1) 0 (tx u k) := fun j x hj => by
      have hjl := (List.getElem?_eq_some_iff.mp hj).1
      rw [Int.zero_add]
      have := hk7.1.tx_ch (i := (j : Int)) (by omega) (by omega)
      rw [hk7.2] at this
      rw [← this]
      unfold ch
      rw [Int.toNat_natCast, List.getD_eq_getElem?_getD, hj]
      rfl
    have ec : cO (tx u k).length ≤ 5 := by unfold cO; omega
    have es : sO (tx u k).length ≤ 23 := by unfold sO; omega
    refine z_aload_n ho dX10_insert_10 rfl ?_
    refine gX10_52 ho dX10_insert_11 hk7.1.1 ?_
    rw [hk7.1.2.1]
    refine z_iconst ho dX10_insert_14 ?_
    refine z_aload_n ho dX10_insert_15 rfl ?_
    refine gX10_58 ho dX10_insert_16 hk7.1.1 ?_
    rw [hn7]
    refine kX10_61 ho hN ((c_of _ (E := E) 0 u7 (k + 1) 0 ((tx u k).length : Int) (tx u k) (by omega) hz (by omega) (by omega) hk7.1.2.2.1 (by omega) (by omega) (by rw [hk7.1.2.2.2.1]; omega) (by rw [hk7.1.2.2.2.1]; omega) hAL hk.Tx.2 (by omega))) dX10_insert_19 (by omega) (Nat.le_of_ble_eq_true rfl) (by omega) (by omega) (fun x19 u19 h19 => ?_)
    obtain ⟨f1, f2, f3⟩ := h19
    refine z_wf (fun hw19 => ?_)
    refine z_cu (cu' := 1097) (su' := 6563) (by omega) (by omega) ?_
    exact go _ _ (Or.inr (RT.mono _ _ _ _ f1 (by omega))) f3 f2 hw19
theorem c_sundo (l : Launch) (u : Mem) {E sc a1 a3 a4 a5 a6 : Nat} {T : List Int} {Os : List (List Int)} (h : ST E u sc a1 a3 a4 a5 a6 T Os) :
    Mt_ l yX10_undo cX10_undo 1 (some .int) 1 0 0 [aR sc] u (qI fun x v => (Os = [] ∧ x = -1 ∧ v = u) ∨ (∃ Ps R, Os = Ps ++ [R] ∧ x = R.length ∧ ST E v sc a1 a3 a4 a5 a6 R Ps ∧ iv_ v sc 7 = 0 ∧ sz_ v = sz_ u ∧ Fr (sQ sc a1 a3 a4 a5 a6) u v)) := by
  obtain ⟨n1, n2⟩ := h.1.ne
  obtain ⟨hX, hR, hTl, hO, hon, hol, hOl⟩ := h
  have hX' := hX
  obtain ⟨⟨ks, r1, r3, r4, r5, r6⟩, ⟨k1, l1⟩, -⟩ := hX
  refine Mt_of (by decide) (Nat.le_of_ble_eq_true rfl) (fun X ho hX hN hI => ?_)
  subst hX
  show Z X 0 [some (aR sc)] [] u 0 0
  refine z_wf (fun hw => ?_)
  refine z_aload_n ho dX10_undo_0 rfl ?_
  refine gX10_38 ho dX10_undo_1 ks ?_
  rw [hon]
  refine z_if_ne (tgt := 9) ho dX10_undo_4 (by decide) (by unfold rng; omega) (fun c4 => ?_) (fun c4 => ?_)
  · rcases List.eq_nil_or_concat Os with z | ⟨Ps, R, hPs⟩
    · rw [z] at c4; exact absurd rfl c4
    rw [List.concat_eq_append] at hPs
    have hlen : Os.length = Ps.length + 1 := by rw [hPs]; simp
    have e1 : (Os.length : Int) - 1 = (Ps.length : Int) := by omega
    have hRo : RO E u (rv_ u a1 (Ps.length : Int)) R := hO Ps.length R (by rw [hPs]; simp)
    refine z_aload_n ho dX10_undo_9 rfl ?_
    refine z_dup ho dX10_undo_10 rfl ?_
    refine gX10_38 ho dX10_undo_11 ks ?_
    rw [hon]
    refine z_iconst ho dX10_undo_14 ?_
    refine z_isub ho dX10_undo_15 ?_
    refine pX10_38 ho dX10_undo_16 ks  ?_
    rw [e1]
    have e2 : iv_ (wI_ u sc 2 (Ps.length : Int)) sc 2 = Ps.length := by rw [iv_wI, if_pos ⟨rfl, rfl⟩]
    refine z_aload_n ho dX10_undo_19 rfl ?_
    refine z_aload_n ho dX10_undo_20 rfl ?_
    refine gX10_11 ho dX10_undo_21 ks ?_
    rw [rv_wI, r1]
    refine z_aload_n ho dX10_undo_24 rfl ?_
    refine gX10_38 ho dX10_undo_25 ks ?_
    rw [e2]
    refine z_aald ho dX10_undo_28 (by decide) (show kd_ (wI_ u sc 2 (Ps.length : Int)) a1 = 107 from k1) (by omega) (by rw [ln_wI, l1]; omega) ?_
    rw [rv_wI]
    refine pX10_30 ho dX10_undo_29 ks  ?_
    refine z_aload_n ho dX10_undo_32 rfl ?_
    refine z_iconst ho dX10_undo_33 ?_
    refine pX10_41 ho dX10_undo_34 ks (Or.inl rfl) ?_
    generalize hv : wI_ (wR_ (wI_ u sc 2 (Ps.length : Int)) sc 0 (rv_ u a1 (Ps.length : Int))) sc 7 0 = w
    have W : ∀ a, a ≠ sc → Sm u w a := fun a z1 => by rw [← hv]; exact ((Sm.wI z1).tr (Sm.wR z1)).tr (Sm.wI z1)
    have kw : ∀ a, kd_ w a = kd_ u a ∧ ln_ w a = ln_ u a := fun a => by rw [← hv]; exact ⟨rfl, rfl⟩
    have w0 : rv_ w sc 0 = rv_ u a1 (Ps.length : Int) := by rw [← hv, rv_wI, rv_wR, if_pos ⟨rfl, rfl⟩]
    have wi : ∀ i, i ≠ 0 → rv_ w sc i = rv_ u sc i := fun i hi => by rw [← hv, rv_wI, rv_wR, if_neg (fun z => hi z.2)]; rfl
    have w2 : iv_ w sc 2 = Ps.length := by rw [← hv, iv_wI, if_neg (by omega), iv_wR, iv_wI, if_pos ⟨rfl, rfl⟩]
    have w7 : iv_ w sc 7 = 0 := by rw [← hv, iv_wI, if_pos ⟨rfl, rfl⟩]
    have frO : ∀ {x : Nat} {S : List Int}, RO E u x S → RO E w x S := fun hx => RO.frame (fun a ha => W a (fun z => by rw [z] at ha; omega)) (fun a ha _ => W a (fun z => by rw [z] at ha; omega)) hx
    have Xw := hX'.same (fun a _ => kw a) wi
    have hRw : RO E w (rv_ w sc 0) R := by rw [w0]; exact frO hRo
    refine z_aload_n ho dX10_undo_37 rfl ?_
    refine kX10_45 ho hN (c_slen _ _ Xw.1.1 hRw) dX10_undo_38 Xw.1.1 (Nat.le_of_ble_eq_true rfl) (Nat.le_of_ble_eq_true rfl) (Nat.le_of_ble_eq_true rfl) (Nat.le_of_ble_eq_true rfl) (fun x38 u38 h38 => ?_)
    obtain ⟨rfl, hx⟩ := h38
    refine r_I ho dX10_undo_41 (Nat.le_of_ble_eq_true rfl) (Nat.le_of_ble_eq_true rfl) ?_
    refine Or.inr ⟨Ps, R, hPs, hx, ⟨Xw, hRw, hOl R (by rw [hPs]; simp), fun j O hj => ?_, w2, by omega, fun O hO' => hOl O (by rw [hPs]; simp [hO'])⟩, w7, by rw [← hv]; rfl, ?_⟩
    · rw [(W a1 (Ne.symm n1.1)).2.2.2]
      refine frO (hO j O ?_)
      rw [hPs, List.getElem?_append_left (List.getElem?_eq_some_iff.mp hj).1]; exact hj
    · rw [← hv]
      exact (((Fr.rf _ u).nI (Or.inr (Or.inl rfl))).nR (Or.inr (Or.inl rfl))).nI (Or.inr (Or.inl rfl))
  · 
    refine z_iconst ho dX10_undo_7 ?_
    refine r_I ho dX10_undo_8 (Nat.le_of_ble_eq_true rfl) (Nat.le_of_ble_eq_true rfl) ?_
    exact Or.inl ⟨List.eq_nil_of_length_eq_zero (by omega), rfl, rfl⟩
def sumT (T : List Int) : Int := T.foldl (fun h c => 31 * h + c) 0
theorem c_ssum (l : Launch) (u : Mem) {E sc : Nat} {T : List Int} (ks : kd_ u sc = 10) (h : RO E u (rv_ u sc 0) T) (hT : T.length ≤ 120) : Mt_ l yX10_sum cX10_sum 3 (some .int) 1 0 0 [aR sc] u (qI fun r v => u = v ∧ r = sumT T) := by
  refine Mt_of (by decide) (Nat.le_of_ble_eq_true rfl) (fun X ho hX hN hI => ?_)
  subst hX
  show Z X 0 [some (aR sc), none, none] [] u 0 0
  refine z_wf (fun hw => ?_)
  obtain ⟨h1, h2⟩ := h.len hw
  have key : ∀ (C A : List Int), T = A ++ C → Z X 4 [some (aR sc), some (aI (sumT A)), some (aI (A.length : Int))] [] u 0 0 := by
    intro C
    induction C with
    | nil =>
      intro A hA
      rw [List.append_nil] at hA
      subst hA
      refine z_iload_n ho dX10_sum_4 rfl ?_
      refine z_aload_n ho dX10_sum_5 rfl ?_
      refine kX10_45 ho hN (c_slen _ _ ks h) dX10_sum_6 ks (Nat.le_of_ble_eq_true rfl) (Nat.le_of_ble_eq_true rfl) (Nat.le_of_ble_eq_true rfl) (Nat.le_of_ble_eq_true rfl) (fun x6 u6 h6 => ?_)
      obtain ⟨rfl, rfl⟩ := h6
      refine z_icmp_ge (tgt := 32) ho dX10_sum_9 (by decide) (by unfold rng; omega) (by unfold rng; omega) (fun c9 => ?_) (fun c9 => ?_)
      · 
        refine z_iload_n ho dX10_sum_32 rfl ?_
        refine r_I ho dX10_sum_33 (Nat.le_of_ble_eq_true rfl) (Nat.le_of_ble_eq_true rfl) ?_
        exact ⟨rfl, rfl⟩
      · omega
    | cons c C ih =>
      intro A hA
      have hlen : T.length = A.length + (C.length + 1) := by rw [hA]; simp
      have hr0 : rv_ u sc 0 ≠ 0 := fun z => by rw [h1.mp z] at hlen; simp at hlen
      obtain ⟨k1, k2, k3⟩ := h2 hr0
      have ec : ch T (A.length : Int) = c := by rw [hA]; unfold ch; simp
      refine z_iload_n ho dX10_sum_4 rfl ?_
      refine z_aload_n ho dX10_sum_5 rfl ?_
      refine kX10_45 ho hN (c_slen _ _ ks h) dX10_sum_6 ks (Nat.le_of_ble_eq_true rfl) (Nat.le_of_ble_eq_true rfl) (Nat.le_of_ble_eq_true rfl) (Nat.le_of_ble_eq_true rfl) (fun x6 u6 h6 => ?_)
      obtain ⟨rfl, rfl⟩ := h6
      refine z_icmp_ge (tgt := 32) ho dX10_sum_9 (by decide) (by unfold rng; omega) (by unfold rng; omega) (fun c9 => ?_) (fun c9 => ?_)
      · omega
      · 
        refine z_bipush ho dX10_sum_12 rfl ?_
        refine z_iload_n ho dX10_sum_14 rfl ?_
        refine z_imul ho dX10_sum_15 ?_
        refine z_aload_n ho dX10_sum_16 rfl ?_
        refine gX10_30 ho dX10_sum_17 ks ?_
        refine z_iload_n ho dX10_sum_20 rfl ?_
        refine kX10_73 ho hN (c_ropeat _ _ k3 (by omega) (by omega) (by omega)) dX10_sum_21 k1 (Nat.le_of_ble_eq_true rfl) (Nat.le_of_ble_eq_true rfl) (Nat.le_of_ble_eq_true rfl) (Nat.le_of_ble_eq_true rfl) (fun x21 u21 h21 => ?_)
        obtain ⟨rfl, rfl⟩ := h21
        rw [ec]
        refine z_iadd ho dX10_sum_24 ?_
        refine z_istore_n ho dX10_sum_25 (Nat.le_of_ble_eq_true rfl) rfl ?_
        refine z_iinc ho dX10_sum_26 rfl rfl ?_
        refine z_goto (tgt := 4) ho dX10_sum_29 (by decide) ?_
        have := ih (A ++ [c]) (by rw [hA]; simp)
        rw [List.length_append, show sumT (A ++ [c]) = 31 * sumT A + c by unfold sumT; rw [List.foldl_append]; rfl] at this
        exact this
  refine z_iconst ho dX10_sum_0 ?_
  refine z_istore_n ho dX10_sum_1 (Nat.le_of_ble_eq_true rfl) rfl ?_
  refine z_iconst ho dX10_sum_2 ?_
  refine z_istore_n ho dX10_sum_3 (Nat.le_of_ble_eq_true rfl) rfl ?_
  exact key T [] rfl
