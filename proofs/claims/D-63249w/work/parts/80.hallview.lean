set_option maxRecDepth 100000
/-! ===== KeyHall.type, view ===== -/
/-- character k of a long -/
def chW (w : Int64) (k : Nat) : Int := (w >>> ((Int32.ofInt (16 * (k : Int))).toInt64 &&& 63)).toInt32.toInt % 65536
def typd (w : Int64) : Nat → List Int
  | 0 => []
  | n + 1 => chW w n :: typd w n
theorem typd_len (w : Int64) : ∀ n, (typd w n).length = n
  | 0 => rfl
  | n + 1 => by rw [typd, List.length_cons, typd_len w n]
theorem chW_r (w : Int64) (k : Nat) : 0 ≤ chW w k ∧ chW w k < 65536 := by unfold chW; omega
theorem tx_push {w : Mem} {a : Nat} {L : List Int} {c : Int} (hk : Ky w a) (h : tx w a = L) (hl : L.length < 8) (h0 : 0 ≤ c) (h1 : c < 65536) : Ky (wI_ (wI_ w a 1 ((L.length : Int) + 1)) (a + 1) (L.length : Int) c) a ∧ tx (wI_ (wI_ w a 1 ((L.length : Int) + 1)) (a + 1) (L.length : Int) c) a = L ++ [c] := by
  have hn := hk.tx_len
  rw [h] at hn
  obtain ⟨k1, k2, k3, k4, k5, k6, k7⟩ := hk
  have e1 : iv_ (wI_ (wI_ w a 1 ((L.length : Int) + 1)) (a + 1) (L.length : Int) c) a 1 = (L.length : Int) + 1 := by rw [iv_wI, if_neg (by omega), iv_wI, if_pos ⟨rfl, rfl⟩]
  have e2 : ∀ j, iv_ (wI_ (wI_ w a 1 ((L.length : Int) + 1)) (a + 1) (L.length : Int) c) (a + 1) j = if j = (L.length : Int) then c else iv_ w (a + 1) j := fun j => by
    rw [iv_wI]
    by_cases z : j = (L.length : Int)
    · rw [if_pos ⟨rfl, z⟩, if_pos z]
    · rw [if_neg (fun y => z y.2), if_neg z, iv_wI, if_neg (by omega)]
  refine ⟨⟨k1, k2, k3, k4, by rw [e1]; omega, by rw [e1]; omega, fun j h0 h1 => by rw [e2]; split; (· omega); exact k7 j h0 h1⟩, ?_⟩
  unfold tx at h ⊢
  rw [e1, show ((L.length : Int) + 1).toNat = L.length + 1 by omega]
  have e3 : (iv_ w a 1).toNat = L.length := by omega
  rw [e3] at h
  unfold seg at h ⊢
  rw [List.range_succ, List.map_append, List.map_singleton]
  congr 1
  · conv => rhs; rw [← h]
    refine List.map_congr_left (fun j hj => ?_)
    have := List.mem_range.mp hj
    rw [e2, if_neg (by omega)]
  · rw [e2, if_pos rfl]
theorem c_htype (l : Launch) (u : Mem) {x : Nat} {W : Int64} {n : Int} {tp fd : List Int} {M : Nat → List KV} {ch : Nat → Int} {VL : List VS} {Ks : List (List Int)} {T : List Int} {Os : List (List Int)} (h : HS u x tp fd M ch VL Ks T Os) (rn : rng n) :
    Mt_ l yX1_type cX1_type 5 (some .boolean) 0 0 0 [aR x, aL W, aI n] u (qI fun r v => MR x u v ∧ ((¬ (1 ≤ n ∧ n ≤ 4 ∧ (tp.length : Int) + n ≤ 8) ∧ r = 0 ∧ HS v x tp fd M ch VL Ks T Os) ∨ (1 ≤ n ∧ n ≤ 4 ∧ (tp.length : Int) + n ≤ 8 ∧ r = 1 ∧ HS v x (tp ++ typd W n.toNat) fd M ch VL Ks T Os))) := by
  obtain ⟨kx, q0, -⟩ := h.2.1
  have g1 := h.1.1
  have ht := h.2.2.1
  have hln := ht.1.tx_len
  rw [ht.2.2] at hln
  have hl8 := ht.1.Tx.1
  rw [ht.2.2] at hl8
  refine Mt_of (by decide) (Nat.le_of_ble_eq_true rfl) (fun X ho hX hN hI => ?_)
  subst hX
  show Z X 0 [some (aR x), some (aL W), none, some (aI n), none] [] u 0 0
  have key : 1 ≤ n → n ≤ 4 → (tp.length : Int) + n ≤ 8 → ∀ (m : Nat) (A : List Int) (w : Mem), A ++ typd W m = typd W n.toNat → HS w x (tp ++ A) fd M ch VL Ks T Os → MR x u w → Z X 31 [some (aR x), some (aL W), none, some (aI n), some (aI ((m : Int) - 1))] [] w 0 0 := by
    intro n1 n4 n8 m
    induction m with
    | zero =>
      intro A w hA hw' hM
      refine z_iload ho dX1_type_31 rfl ?_
      refine z_if_lt (tgt := 73) ho dX1_type_33 (by decide) (by unfold rng; omega) (fun c33 => ?_) (fun c33 => ?_)
      · 
        refine z_iconst ho dX1_type_73 ?_
        refine r_Z ho dX1_type_74 (Nat.le_of_ble_eq_true rfl) (Nat.le_of_ble_eq_true rfl) ?_ ?_
        · exact Or.inr rfl
        · rw [typd, List.append_nil] at hA
          rw [hA] at hw'
          exact ⟨hM, Or.inr ⟨n1, n4, n8, rfl, hw'⟩⟩
      · omega
    | succ m ih =>
      intro A w hA hw' hM
      have hlA : A.length + (m + 1) = n.toNat := by have := congrArg List.length hA; rwa [List.length_append, typd_len, typd_len] at this
      obtain ⟨kx, q0, -⟩ := hw'.2.1
      have g1 := hw'.1.1
      have ht := hw'.2.2.1
      have hln := ht.1.tx_len
      rw [ht.2.2] at hln
      obtain ⟨c1, c2⟩ := chW_r W m
      obtain ⟨p1, p2⟩ := tx_push (c := chW W m) ht.1 ht.2.2 (by rw [List.length_append]; omega) c1 c2
      rw [show ((m + 1 : Nat) : Int) - 1 = (m : Int) by omega]
      refine z_wf (fun hww => ?_)
      refine z_iload ho dX1_type_31 rfl ?_
      refine z_if_lt (tgt := 73) ho dX1_type_33 (by decide) (by unfold rng; omega) (fun c33 => ?_) (fun c33 => ?_)
      · omega
      · 
        refine z_aload_n ho dX1_type_36 rfl ?_
        refine gX1_10 ho dX1_type_37 kx ?_
        rw [q0]
        refine gX1_87 ho dX1_type_40 ht.1.1 ?_
        rw [ht.1.2.1]
        refine z_aload_n ho dX1_type_43 rfl ?_
        refine gX1_10 ho dX1_type_44 kx ?_
        rw [q0]
        refine z_dup ho dX1_type_47 rfl ?_
        refine gX1_84 ho dX1_type_48 ht.1.1 ?_
        rw [← hln]
        refine z_dup_x1 ho dX1_type_51 rfl rfl ?_
        refine z_iconst ho dX1_type_52 ?_
        refine z_iadd ho dX1_type_53 ?_
        refine pX1_84 ho dX1_type_54 ht.1.1  ?_
        refine z_lload_n ho dX1_type_57 rfl ?_
        refine z_bipush ho dX1_type_58 rfl ?_
        refine z_iload ho dX1_type_60 rfl ?_
        refine z_imul ho dX1_type_62 ?_
        refine z_lshr ho dX1_type_63 ?_
        refine z_l2i ho dX1_type_64 ?_
        refine z_i2c ho dX1_type_65 ?_
        refine z_cast ho dX1_type_66 ht.1.2.2.1 (by omega) (by rw [ln_wI, ht.1.2.2.2.1, List.length_append]; omega) (by omega) (by omega) ?_
        refine z_iinc ho dX1_type_67 rfl rfl ?_
        refine z_goto (tgt := 31) ho dX1_type_70 (by decide) ?_
        have e0 : (w.1, w.2) = w := rfl
        have hs : ∀ a, a ≠ x + 1 → a ≠ x + 2 → Sm w (wI_ (wI_ w (x + 1) 1 (((tp ++ A).length : Int) + 1)) (x + 1 + 1) ((tp ++ A).length : Int) (chW W m)) a := fun a z1 z2 => (Sm.wI z1).tr (Sm.wI z2)
        have hd := hw'.2.2.2.2.1
        obtain ⟨hh, hd⟩ := hd
        have H2 := hw'.keys hww (v := wI_ (wI_ w (x + 1) 1 (((tp ++ A).length : Int) + 1)) (x + 1 + 1) ((tp ++ A).length : Int) (chW W m)) (Nat.le_refl _) (fun a _ => ⟨rfl, rfl⟩) (fun a ha hn => hs a (fun z => hn (Or.inl z)) (fun z => hn (Or.inr (Or.inl z)))) ⟨p1, ht.2.1, p2⟩ (hw'.2.2.2.1.same (hs _ (by omega) (by omega)) (hs _ (by omega) (by omega))) (hd.same (hs _ (by omega) (by omega)) (hs _ (by omega) (by omega)))
        rw [List.append_assoc] at H2
        exact ih (A ++ [chW W m]) _ (by rw [← hA, typd, List.append_assoc]; rfl) H2 (hM.tr ⟨Nat.le_refl _, fun a q1 q2 => hs a (by omega) (by omega)⟩)
  have no : ¬ (1 ≤ n ∧ n ≤ 4 ∧ (tp.length : Int) + n ≤ 8) → Z X 24 [some (aR x), some (aL W), none, some (aI n), none] [] u 0 0 := fun hn => by
    refine z_iconst ho dX1_type_24 ?_
    refine r_Z ho dX1_type_25 (Nat.le_of_ble_eq_true rfl) (Nat.le_of_ble_eq_true rfl) ?_ ?_
    · exact Or.inl rfl
    · exact ⟨MR.rf _ _, Or.inl ⟨hn, rfl, h⟩⟩
  refine z_iload_n ho dX1_type_0 rfl ?_
  refine z_iconst ho dX1_type_1 ?_
  refine z_icmp_lt (tgt := 24) ho dX1_type_2 (by decide) rn (by unfold rng; omega) (fun c2 => ?_) (fun c2 => ?_)
  · exact no (by omega)
  · 
    refine z_iload_n ho dX1_type_5 rfl ?_
    refine z_iconst ho dX1_type_6 ?_
    refine z_icmp_gt (tgt := 24) ho dX1_type_7 (by decide) rn (by unfold rng; omega) (fun c7 => ?_) (fun c7 => ?_)
    · exact no (by omega)
    · 
      refine z_aload_n ho dX1_type_10 rfl ?_
      refine gX1_10 ho dX1_type_11 kx ?_
      rw [q0]
      refine gX1_84 ho dX1_type_14 ht.1.1 ?_
      rw [← hln]
      refine z_iload_n ho dX1_type_17 rfl ?_
      refine z_iadd ho dX1_type_18 ?_
      refine z_bipush ho dX1_type_19 rfl ?_
      refine z_icmp_le (tgt := 26) ho dX1_type_21 (by decide) (by unfold rng; omega) (by unfold rng; omega) (fun c21 => ?_) (fun c21 => ?_)
      · 
        refine z_iload_n ho dX1_type_26 rfl ?_
        refine z_iconst ho dX1_type_27 ?_
        refine z_isub ho dX1_type_28 ?_
        refine z_istore ho dX1_type_29 (Nat.le_of_ble_eq_true rfl) rfl ?_
        have := key (by omega) (by omega) (by omega) n.toNat [] u rfl (by rw [List.append_nil]; exact h) (MR.rf _ _)
        rw [show ((n.toNat : Nat) : Int) = n by omega] at this
        exact this
      · exact no (by omega)
/-! ===== view ===== -/
/-- what a view made so lets through -/
def vwP (w : Int) (tp s : List Int) : Prop := (w = 0 → tp <+: s) ∧ (w = 1 → s < tp) ∧ (w = 2 → ¬ s < tp)
def vwN (vs : VS) (w : Int) (tp : List Int) : VS := (vs.1, (fun s => vs.2.1 s ∧ vwP w tp s), (if w = 3 then 1 - vs.2.2.1 else vs.2.2.1), 0, 0, none, 0)
/-- a view is added -/
theorem HS.vadd {u v : Mem} {x A : Nat} {tp fd : List Int} {M : Nat → List KV} {ch : Nat → Int} {VL : List VS} {Ks : List (List Int)} {T : List Int} {Os : List (List Int)} {vs' : VS} {S : Nat → List Nat} (h : HS u x tp fd M ch VL Ks T Os) (hw : Wf u) (hT : HT u x S M ch) (hV : HV u x S ch VL) (hn : VL.length < 12) (hz : sz_ u ≤ sz_ v) (hs : ∀ a, a < sz_ u → a ≠ x → a ≠ x + 3 → Sm u v a) (hx : (kd_ v x = kd_ u x ∧ ln_ v x = ln_ u x) ∧ (∀ k, rv_ v x k = rv_ u x k) ∧ iv_ v x 2 = (VL.length : Int) + 1) (h3 : (kd_ v (x + 3) = kd_ u (x + 3) ∧ ln_ v (x + 3) = ln_ u (x + 3)) ∧ ∀ k : Int, rv_ v (x + 3) k = if k = (VL.length : Int) then A else rv_ u (x + 3) k) (hA : sz_ u ≤ A) (hv : HV1 v x S ch A vs') : HS v x tp fd M ch (VL ++ [vs']) Ks T Os ∧ MR x u v := by
  obtain ⟨⟨g1, g2, g3⟩, ⟨kx, q0, q1, q2, q3, q4, q5, q6, q7, q8, kv, lv, hn12⟩, t1, f1, ⟨h0, d1⟩, -, hA', hX⟩ := h
  have kl : ∀ a, a < sz_ u → kd_ v a = kd_ u a ∧ ln_ v a = ln_ u a := fun a ha => by
    by_cases z1 : a = x
    · rw [z1]; exact hx.1
    · by_cases z2 : a = x + 3
      · rw [z2]; exact h3.1
      · exact ⟨(hs a ha z1 z2).1, (hs a ha z1 z2).2.1⟩
  have hK : Kp_ x u v := ⟨hz, kl, fun a ha hE _ => hs a ha (by omega) (by omega)⟩
  have sx : ∀ a, a < x + 64 → a ≠ x → a ≠ x + 3 → Sm u v a := fun a ha hn => hs a (by omega) hn
  refine ⟨⟨⟨by omega, g2, fun a q1 q2 => by rw [(kl a (by omega)).1]; exact g3 a q1 q2⟩, ⟨by rw [hx.1.1]; exact kx, by rw [hx.2.1]; exact q0, by rw [hx.2.1]; exact q1, by rw [hx.2.2, List.length_append]; rfl, by rw [hx.2.1]; exact q3, by rw [hx.2.1]; exact q4, by rw [hx.2.1]; exact q5, by rw [hx.2.1]; exact q6, by rw [hx.2.1]; exact q7, by rw [hx.2.1]; exact q8, by rw [h3.1.1]; exact kv, by rw [h3.1.2]; exact lv, by rw [List.length_append]; simp; omega⟩, t1.same (sx _ (by omega) (by omega) (by omega)) (sx _ (by omega) (by omega) (by omega)), f1.same (sx _ (by omega) (by omega) (by omega)) (sx _ (by omega) (by omega) (by omega)), ⟨h0, d1.same (sx _ (by omega) (by omega) (by omega)) (sx _ (by omega) (by omega) (by omega))⟩, ⟨S, hT.same hw hK (fun i hi => ?_) (fun i a hi ha hsc => hs a ha (fun z => ?_) (fun z => ?_)), fun j vs hj => ?_, fun j k hj hk e => ?_⟩, hA'.same (fun a q1 q2 => sx a (by omega) (by omega) (by omega)), hX.same hw hK (fun a ha hk => hs a ha (fun z => by rw [z] at hk; omega) (fun z => by rw [z] at hk; omega)) (fun a q1 q2 => sx a (by omega) (by omega) (by omega))⟩, hz, fun a q1 q2 => sx a (by omega) (by omega) (by omega)⟩
  · have := tA_3 x i
    have s := sx (tA x i) (by omega) (by omega) (by omega)
    exact ⟨s.2.2.2, s.2.2.1 0, s.2.2.1 1⟩
  · rw [z, kx] at hsc
    unfold Sc K5 at hsc
    omega
  · rw [z, kv] at hsc
    unfold Sc K5 at hsc
    omega
  · rw [h3.2]
    by_cases z : j = VL.length
    · rw [z, List.getElem?_concat_length] at hj
      cases hj
      rw [z, if_pos rfl]
      exact hv
    · have hjl : j < VL.length := by
        have := (List.getElem?_eq_some_iff.mp hj).1
        rw [List.length_append] at this
        simp at this
        omega
      rw [List.getElem?_append_left hjl] at hj
      rw [if_neg (by omega)]
      have q := hV.1 j vs hj
      have ka : kd_ u (rv_ u (x + 3) (j : Int)) = 11 := by obtain ⟨-, -, ⟨lo, hi, ⟨q1, -⟩, -⟩, -⟩ := q; exact q1
      have hq1 := q.1
      exact q.same hw hK (hs _ (hw.1 _ (by omega)).1 (by omega) (by omega)) (Int.le_refl _) (fun _ _ z => ⟨z, fun y => y⟩)
  · rw [List.length_append] at hj hk
    simp only [List.length_singleton] at hj hk
    rw [h3.2, h3.2] at e
    have lt : ∀ j : Nat, j < VL.length → rv_ u (x + 3) (j : Int) < sz_ u := fun j hj => by
      have q := hV.1 j VL[j] (List.getElem?_eq_getElem hj)
      obtain ⟨-, -, ⟨lo, hi, ⟨q1, -⟩, -⟩, -⟩ := q
      exact (hw.1 _ (by omega)).1
    by_cases z1 : j = VL.length
    · by_cases z2 : k = VL.length
      · omega
      · rw [if_pos (by omega), if_neg (by omega)] at e
        have := lt k (by omega)
        omega
    · by_cases z2 : k = VL.length
      · rw [if_neg (by omega), if_pos (by omega)] at e
        have := lt j (by omega)
        omega
      · rw [if_neg (by omega), if_neg (by omega)] at e
        exact hV.2 j k (by omega) (by omega) e
/-- a new view A in the memory m, made in w -/
def VG (w m : Mem) (x A t : Nat) (lo hi : Option (List Int)) (P : List Int → Prop) (tu : Int) : Prop := (∃ lo' hi', Vw m A t lo' hi' ∧ ∀ s, Tx s → (inR lo' hi' s ↔ inR lo hi s ∧ P s)) ∧ (∀ a, a < sz_ w → Sm w m a) ∧ sz_ w < sz_ m ∧ iv_ m A 3 = tu ∧ (iv_ m A 4 = 0 ∧ iv_ m A 5 = 0 ∧ iv_ m A 7 = 0 ∧ rv_ m A 6 = 0) ∧ ∀ k, (k = 1 ∨ k = 2) → rv_ m A k = 0 ∨ (x + 64 ≤ rv_ m A k ∧ kd_ m (rv_ m A k) = 2)
theorem vcp_facts {w : Mem} {bv t : Nat} {lo hi : Option (List Int)} (hw : Wf w) (hV : Vw w bv t lo hi) : Vw (vcp w bv) (sz_ w) t lo hi ∧ (∀ a, a < sz_ w → Sm w (vcp w bv) a) ∧ sz_ (vcp w bv) = sz_ w + 1 ∧ iv_ (vcp w bv) (sz_ w) 3 = iv_ w bv 3 ∧ (iv_ (vcp w bv) (sz_ w) 4 = 0 ∧ iv_ (vcp w bv) (sz_ w) 5 = 0 ∧ iv_ (vcp w bv) (sz_ w) 7 = 0 ∧ rv_ (vcp w bv) (sz_ w) 6 = 0) ∧ ∀ k, (k = 1 ∨ k = 2) → rv_ (vcp w bv) (sz_ w) k = rv_ w bv k := by
  have hs : ∀ a, a < sz_ w → Sm w (vcp w bv) a := fun a ha => by
    have z : a ≠ sz_ w := by omega
    unfold vcp
    exact ((((Sm.al z).tr (Sm.wR z)).tr (Sm.wR z)).tr (Sm.wR z)).tr (Sm.wI z)
  have e : ∀ k, rv_ (vcp w bv) (sz_ w) k = if k = 2 then rv_ w bv 2 else if k = 1 then rv_ w bv 1 else if k = 0 then rv_ w bv 0 else 0 := fun k => by
    unfold vcp
    rw [rv_wI, rv_wR]
    by_cases z2 : k = 2
    · rw [if_pos ⟨rfl, z2⟩, if_pos z2]
    · rw [if_neg (fun y => z2 y.2), if_neg z2, rv_wR]
      by_cases z1 : k = 1
      · rw [if_pos ⟨rfl, z1⟩, if_pos z1]
      · rw [if_neg (fun y => z1 y.2), if_neg z1, rv_wR]
        by_cases z0 : k = 0
        · rw [if_pos ⟨rfl, z0⟩, if_pos z0]
        · rw [if_neg (fun y => z0 y.2), if_neg z0, rv_al, if_pos rfl]
  have ei : ∀ k, iv_ (vcp w bv) (sz_ w) k = if k = 3 then iv_ w bv 3 else 0 := fun k => by
    unfold vcp
    rw [iv_wI]
    by_cases z2 : k = 3
    · rw [if_pos ⟨rfl, z2⟩, if_pos z2]
    · rw [if_neg (fun y => z2 y.2), if_neg z2, iv_wR, iv_wR, iv_wR, iv_al, if_pos rfl]
  have ko : ∀ {k : Nat} {o : Option (List Int)}, KyO w k o → KyO (vcp w bv) k o := fun {k o} hko => by
    rcases hko with z | ⟨z, e⟩
    · exact Or.inl z
    · have hl := z.lt hw
      have := z.same (hs k hl.1) (hs (k + 1) hl.2.1)
      exact Or.inr ⟨this.1, by rw [this.2]; exact e⟩
  obtain ⟨kv, ht, hlo, hhi⟩ := hV
  refine ⟨⟨?_, ?_, ?_, ?_⟩, hs, rfl, by rw [ei]; rfl, ⟨by rw [ei]; rfl, by rw [ei]; rfl, by rw [ei]; rfl, by rw [e]; rfl⟩, fun k hk => ?_⟩
  · unfold vcp
    rw [kd_wI, kd_wR, kd_wR, kd_wR, kd_al, if_pos rfl]
  · rw [e]; exact ht
  · rw [e]; exact ko hlo
  · rw [e]; exact ko hhi
  · rw [e]
    rcases hk with z | z <;> subst z <;> rfl
theorem VG.of {w m : Mem} {x bv K0 t : Nat} {lo hi : Option (List Int)} {P : List Int → Prop} (hw : Wf w) (hV : Vw w bv t lo hi) (hl : ∀ k, (k = 1 ∨ k = 2) → rv_ w bv k = 0 ∨ (x + 64 ≤ rv_ w bv k ∧ kd_ w (rv_ w bv k) = 2)) (hK : x + 64 ≤ K0 ∧ kd_ w K0 = 2) (hz : x + 64 ≤ sz_ w) (hN : Nv (vcp w bv) m (sz_ w) t K0 lo hi P) : VG w m x (sz_ w) t lo hi P (iv_ w bv 3) := by
  obtain ⟨f1, f2, f3, f4, f5, f6⟩ := vcp_facts hw hV
  obtain ⟨n1, n2, n3, n4, n5, n6, n7⟩ := hN
  have hs : ∀ a, a < sz_ w → Sm w m a := fun a ha => (f2 a ha).tr (n2 a (by omega) (by omega))
  refine ⟨n1, hs, by omega, by rw [n5]; exact f4, ⟨by rw [n5]; exact f5.1, by rw [n5]; exact f5.2.1, by rw [n5]; exact f5.2.2.1, by rw [n6 6 (by decide) (by decide)]; exact f5.2.2.2⟩, fun k hk => ?_⟩
  rcases n7 k hk with q | q | ⟨q1, q2⟩
  · rw [q, f6 k hk]
    rcases hl k hk with y | ⟨y1, y2⟩
    · exact Or.inl y
    · exact Or.inr ⟨y1, by rw [(hs _ (hw.1 _ (by omega)).1).1]; exact y2⟩
  · rw [q]
    exact Or.inr ⟨hK.1, by rw [(hs _ (hw.1 _ (by omega)).1).1]; exact hK.2⟩
  · exact Or.inr ⟨by omega, q2⟩
theorem VG.imp {w m : Mem} {x A t : Nat} {lo hi : Option (List Int)} {P Q : List Int → Prop} {tu : Int} (h : VG w m x A t lo hi P tu) (hPQ : ∀ s, P s ↔ Q s) : VG w m x A t lo hi Q tu := by
  obtain ⟨⟨lo', hi', h1, h2⟩, h3⟩ := h
  exact ⟨⟨lo', hi', h1, fun s hs => by rw [h2 s hs, hPQ s]⟩, h3⟩
theorem VG.turn {w m : Mem} {x A t : Nat} {lo hi : Option (List Int)} {P : List Int → Prop} {tu tu' : Int} (h : VG w m x A t lo hi P tu) (hA : sz_ w ≤ A) : VG w (wI_ m A 3 tu') x A t lo hi P tu' := by
  obtain ⟨⟨lo', hi', ⟨k1, k2, k3, k4⟩, h2⟩, h3, h4, h5, ⟨h6, h7, h8, h9⟩, h10⟩ := h
  have hs : ∀ a, a ≠ A → Sm m (wI_ m A 3 tu') a := fun a ha => Sm.wI ha
  have ko : ∀ {k : Nat} {o : Option (List Int)}, KyO m k o → KyO (wI_ m A 3 tu') k o := fun {k o} hko => by
    rcases hko with z | ⟨z, e⟩
    · exact Or.inl z
    · have hd := z.kd
      have hc := z.2.2.1
      have := z.same (hs k (fun y => by rw [y] at hd; omega)) (hs (k + 1) (fun y => by rw [y] at hc; omega))
      exact Or.inr ⟨this.1, by rw [this.2]; exact e⟩
  exact ⟨⟨lo', hi', ⟨k1, k2, ko k3, ko k4⟩, h2⟩, fun a ha => (h3 a ha).tr (hs a (by omega)), h4, by rw [iv_wI, if_pos ⟨rfl, rfl⟩], ⟨by rw [iv_wI, if_neg (by omega)]; exact h6, by rw [iv_wI, if_neg (by omega)]; exact h7, by rw [iv_wI, if_neg (by omega)]; exact h8, h9⟩, h10⟩
theorem HS.vnew {w m : Mem} {x : Nat} {tp fd : List Int} {M : Nat → List KV} {ch : Nat → Int} {VL : List VS} {Ks : List (List Int)} {T : List Int} {Os : List (List Int)} {vs : VS} {S : Nat → List Nat} {lo hi : Option (List Int)} {so : Int} {tq : List Int} (H3 : HS w x tp fd M ch VL Ks T Os) (hw3 : Wf w) (hT3 : HT w x S M ch) (hV3 : HV w x S ch VL) (hn : VL.length < 12) (w2 : vs.1 < 3) (w6 : vs.2.2.1 = 0 ∨ vs.2.2.1 = 1) (hR : ∀ s, Tx s → (inR lo hi s ↔ vs.2.1 s)) (hG : VG w m x (sz_ w) (tA x vs.1) lo hi (vwP so tq) (if so = 3 then 1 - vs.2.2.1 else vs.2.2.1)) : HS (wI_ (wR_ m (x + 3) (VL.length : Int) (sz_ w)) x 2 ((VL.length : Int) + 1)) x tp fd M ch (VL ++ [vwN vs so tq]) Ks T Os ∧ MR x w (wI_ (wR_ m (x + 3) (VL.length : Int) (sz_ w)) x 2 ((VL.length : Int) + 1)) := by
  have gz := H3.1.1
  obtain ⟨⟨lo', hi', hVm, hRm⟩, sm, zm, tm, ⟨m4, m5, m7, m6⟩, m12⟩ := hG
  have sx := sm x (by omega)
  have sx3 := sm (x + 3) (by omega)
  have kmx : kd_ m x = 1 := by rw [sx.1]; exact H3.2.1.1
  have km3 : kd_ m (x + 3) = 106 := by rw [sx3.1]; exact H3.2.1.2.2.2.2.2.2.2.2.2.2.1
  have e3 : iv_ (wI_ (wR_ m (x + 3) (VL.length : Int) (sz_ w)) x 2 ((VL.length : Int) + 1)) x 2 = (VL.length : Int) + 1 := by rw [iv_wI, if_pos ⟨rfl, rfl⟩]
  generalize hv' : wI_ (wR_ m (x + 3) (VL.length : Int) (sz_ w)) x 2 ((VL.length : Int) + 1) = v at *
  have sv : ∀ a, a ≠ x → a ≠ x + 3 → Sm m v a := fun a z1 z2 => by rw [← hv']; exact (Sm.wR z2).tr (Sm.wI z1)
  have hv1 : HV1 v x S ch (sz_ w) (vwN vs so tq) := by
    have sA := sv (sz_ w) (by omega) (by omega)
    have ko : ∀ {k : Nat} {o : Option (List Int)}, KyO m k o → KyO v k o := fun {k o} hko => by
      rcases hko with z | ⟨z, e⟩
      · exact Or.inl z
      · have hd := z.kd
        have hc := z.2.2.1
        have := z.same (sv k (fun y => by rw [y] at hd; omega) (fun y => by rw [y] at hd; omega)) (sv (k + 1) (fun y => by rw [y] at hc; omega) (fun y => by rw [y] at hc; omega))
        exact Or.inr ⟨this.1, by rw [this.2]; exact e⟩
    have kl : ∀ k : Int, (k = 1 ∨ k = 2) → rv_ v (sz_ w) k = 0 ∨ (x + 64 ≤ rv_ v (sz_ w) k ∧ kd_ v (rv_ v (sz_ w) k) = 2) := fun k hk => by
      rw [sA.2.2.2]
      rcases m12 k hk with y | ⟨y1, y2⟩
      · exact Or.inl y
      · exact Or.inr ⟨y1, by rw [(sv _ (by omega) (by omega)).1]; exact y2⟩
    refine ⟨Or.inr gz, w2, ⟨lo', hi', ⟨by rw [sA.1]; exact hVm.1, by rw [sA.2.2.2]; exact hVm.2.1, by rw [sA.2.2.2]; exact ko hVm.2.2.1, by rw [sA.2.2.2]; exact ko hVm.2.2.2⟩, fun s hs => ?_⟩, kl 1 (Or.inl rfl), kl 2 (Or.inr rfl), ⟨by rw [sA.2.2.1]; exact tm, ?_⟩, ⟨by rw [sA.2.2.1]; exact m4, Or.inl rfl⟩, ⟨by rw [sA.2.2.1]; exact m5, by show rng 0; unfold rng; omega⟩, Or.inl ⟨by rw [sA.2.2.2]; exact m6, rfl⟩, ⟨by rw [sA.2.2.1]; exact m7, Or.inl rfl⟩, fun z => absurd (show (0 : Int) = 1 from z) (by decide), fun z => absurd (show (0 : Int) = 1 from z) (by decide)⟩
    · rw [hRm s hs, hR s hs]; rfl
    · show (if so = 3 then 1 - vs.2.2.1 else vs.2.2.1) = 0 ∨ (if so = 3 then 1 - vs.2.2.1 else vs.2.2.1) = 1
      split <;> omega
  obtain ⟨z1, z2⟩ := H3.vadd hw3 hT3 hV3 (v := v) (A := sz_ w) (vs' := vwN vs so tq) (by omega) (by rw [← hv']; show sz_ w ≤ sz_ m; omega) (fun a ha y1 y2 => (sm a ha).tr (sv a y1 y2)) ⟨⟨by rw [← hv']; exact sx.1, by rw [← hv']; exact sx.2.1⟩, fun k => by rw [← hv', rv_wI, rv_wR, if_neg (by omega), sx.2.2.2], e3⟩ ⟨⟨by rw [← hv']; exact sx3.1, by rw [← hv']; exact sx3.2.1⟩, fun k => by
    rw [← hv', rv_wI, rv_wR]
    by_cases y : k = (VL.length : Int)
    · rw [if_pos ⟨rfl, y⟩, if_pos y]
    · rw [if_neg (fun q => y q.2), if_neg y, sx3.2.2.2]⟩ (Nat.le_refl _) hv1
  exact ⟨z1, z2⟩
/-- what view leaves -/
def qVw (x : Nat) (u : Mem) (so : Int) (vs : VS) (tp fd : List Int) (M : Nat → List KV) (ch : Nat → Int) (VL : List VS) (Ks : List (List Int)) (T : List Int) (Os : List (List Int)) (r : Int) (v : Mem) : Prop := MR x u v ∧ ((VL.length = 12 ∧ r = -1 ∧ HS v x [] fd M ch VL Ks T Os) ∨ (VL.length < 12 ∧ r = VL.length ∧ HS v x [] fd M ch (VL ++ [vwN vs so tp]) Ks T Os))
theorem view_tail {X : Ctx_} (u w : Mem) {x K0 bv : Nat} {i so : Int} {tp fd : List Int} {M : Nat → List KV} {ch : Nat → Int} {VL : List VS} {Ks : List (List Int)} {T : List Int} {Os : List (List Int)} {vs : VS} {S : Nat → List Nat} {lo hi : Option (List Int)} (ho : Ok_ X yX1_view.cls cX1_view (some .int) 10 8 48 (qI (qVw x u so vs tp fd M ch VL Ks T Os))) (hN : Nl_ X 6) (H3 : HS w x [] fd M ch VL Ks T Os) (hw3 : Wf w) (hT3 : HT w x S M ch) (hV3 : HV w x S ch VL) (M3 : MR x u w) (hn : VL.length < 12) (w2 : vs.1 < 3) (w6 : iv_ w bv 3 = vs.2.2.1 ∧ (vs.2.2.1 = 0 ∨ vs.2.2.1 = 1)) (hVw : Vw w bv (tA x vs.1) lo hi) (hR : ∀ s, Tx s → (inR lo hi s ↔ vs.2.1 s)) (hl12 : ∀ k : Int, (k = 1 ∨ k = 2) → rv_ w bv k = 0 ∨ (x + 64 ≤ rv_ w bv k ∧ kd_ w (rv_ w bv k) = 2)) (hKK : x + 64 ≤ K0 ∧ kd_ w K0 = 2) (kyW : Ky w K0 ∧ tx w K0 = tp) (s0 : 0 ≤ so) (s4 : so < 4) : Z X 50 [some (aR x), some (aI i), some (aI so), some (aR bv), some (aR K0), none] [] w 4 22 := by
  obtain ⟨kxw, r0, r1, r2, r3, r4, r5, r6, r7, r8, kvw, lvw, -⟩ := H3.2.1
  have gz := H3.1.1
  obtain ⟨f1, f2, f3, f4, f5, f6⟩ := vcp_facts hw3 hVw
  have fin : ∀ m : Mem, VG w m x (sz_ w) (tA x vs.1) lo hi (vwP so tp) (if so = 3 then 1 - vs.2.2.1 else vs.2.2.1) → Z X 114 [some (aR x), some (aI i), some (aI so), some (aR bv), some (aR K0), some (aR (sz_ w))] [] m 8 48 := by
    intro m hG
    have hG0 := hG
    obtain ⟨⟨lo', hi', hVm, hRm⟩, sm, zm, -⟩ := hG
    have sx := sm x (by omega)
    have sx3 := sm (x + 3) (by omega)
    have km3 : kd_ m (x + 3) = 106 := by rw [sx3.1]; exact kvw
    have e2 : iv_ m x 2 = VL.length := by rw [sx.2.2.1]; exact r2
    have kmx : kd_ m x = 1 := by rw [sx.1]; exact kxw
    refine z_aload_n ho dX1_view_114 rfl ?_
    refine gX1_18 ho dX1_view_115 kmx ?_
    rw [sx.2.2.2, r1]
    refine z_aload_n ho dX1_view_118 rfl ?_
    refine gX1_22 ho dX1_view_119 kmx ?_
    rw [e2]
    refine z_aload ho dX1_view_122 rfl ?_
    refine z_aast ho dX1_view_124 (Or.inr (Or.inl ⟨rfl, rfl, rfl⟩)) km3 (by omega) (by rw [sx3.2.1]; omega) (Or.inr hVm.1) ?_
    refine z_aload_n ho dX1_view_125 rfl ?_
    refine z_dup ho dX1_view_126 rfl ?_
    refine gX1_22 ho dX1_view_127 (by rw [kd_wR]; exact kmx) ?_
    rw [iv_wR, e2]
    refine z_iconst ho dX1_view_130 ?_
    refine z_iadd ho dX1_view_131 ?_
    refine pX1_22 ho dX1_view_132 (by rw [kd_wR]; exact kmx)  ?_
    refine z_aload_n ho dX1_view_135 rfl ?_
    refine gX1_22 ho dX1_view_136 (by rw [kd_wI, kd_wR]; exact kmx) ?_
    refine z_iconst ho dX1_view_139 ?_
    refine z_isub ho dX1_view_140 ?_
    refine r_I ho dX1_view_141 (Nat.le_of_ble_eq_true rfl) (Nat.le_of_ble_eq_true rfl) ?_
    obtain ⟨z1, z2⟩ := H3.vnew hw3 hT3 hV3 (by omega) w2 w6.2 hR hG0
    have e3 : iv_ (wI_ (wR_ m (x + 3) (VL.length : Int) (sz_ w)) x 2 ((VL.length : Int) + 1)) x 2 = (VL.length : Int) + 1 := by rw [iv_wI, if_pos ⟨rfl, rfl⟩]
    exact ⟨M3.tr z2, Or.inr ⟨by omega, by rw [e3]; omega, z1⟩⟩
  have htu : iv_ w bv 3 = 0 ∨ iv_ w bv 3 = 1 := by rw [w6.1]; exact w6.2
  refine z_aload_n ho dX1_view_50 rfl ?_
  refine kX1_99 ho hN (c_View_copy _ _ hVw.1 htu) dX1_view_51 hVw.1 (by omega) (Nat.le_of_ble_eq_true rfl) (by omega) (by omega) (fun x51 u51 h51 => ?_)
  obtain ⟨rfl, rfl⟩ := h51
  have kyK : Ky (vcp w bv) K0 ∧ tx (vcp w bv) K0 = tp := by
    have hl := kyW.1.lt hw3
    have := kyW.1.same (f2 _ hl.1) (f2 _ hl.2.1)
    exact ⟨this.1, by rw [this.2]; exact kyW.2⟩
  have hs4 : so = 0 ∨ so = 1 ∨ so = 2 ∨ so = 3 := by omega
  rcases hs4 with rfl | rfl | rfl | rfl
  · 
    refine z_astore ho dX1_view_54 (Nat.le_of_ble_eq_true rfl) rfl ?_
    refine z_iload_n ho dX1_view_56 rfl ?_
    refine z_if_ne (tgt := 67) ho dX1_view_57 (by decide) (by unfold rng; omega) (fun c57 => ?_) (fun c57 => ?_)
    · exact absurd rfl c57
    · 
      refine z_aload ho dX1_view_60 rfl ?_
      refine z_aload ho dX1_view_62 rfl ?_
      refine kX1_102 ho hN (c_begin _ _ f1 kyK.1) dX1_view_64 f1.1 (by omega) (Nat.le_of_ble_eq_true rfl) (by omega) (by omega) (fun u64 h64 => ?_)
      obtain hNv := h64
      have hG := (VG.of hw3 hVw hl12 hKK gz h64).imp (Q := vwP 0 tp) (fun s => by rw [kyK.2]; unfold vwP; simp)
      rw [w6.1] at hG
      refine z_iload_n ho dX1_view_67 rfl ?_
      refine z_iconst ho dX1_view_68 ?_
      refine z_icmp_ne (tgt := 79) ho dX1_view_69 (by decide) (by unfold rng; omega) (by unfold rng; omega) (fun c69 => ?_) (fun c69 => ?_)
      · 
        refine z_iload_n ho dX1_view_79 rfl ?_
        refine z_iconst ho dX1_view_80 ?_
        refine z_icmp_ne (tgt := 91) ho dX1_view_81 (by decide) (by unfold rng; omega) (by unfold rng; omega) (fun c81 => ?_) (fun c81 => ?_)
        · 
          refine z_iload_n ho dX1_view_91 rfl ?_
          refine z_iconst ho dX1_view_92 ?_
          refine z_icmp_ne (tgt := 114) ho dX1_view_93 (by decide) (by unfold rng; omega) (by unfold rng; omega) (fun c93 => ?_) (fun c93 => ?_)
          · exact z_cu (by omega) (by omega) (fin _ hG)
          · exact absurd c93 (by decide)
        · exact absurd c81 (by decide)
      · exact absurd c69 (by decide)
  · 
    refine z_astore ho dX1_view_54 (Nat.le_of_ble_eq_true rfl) rfl ?_
    refine z_iload_n ho dX1_view_56 rfl ?_
    refine z_if_ne (tgt := 67) ho dX1_view_57 (by decide) (by unfold rng; omega) (fun c57 => ?_) (fun c57 => ?_)
    · 
      refine z_iload_n ho dX1_view_67 rfl ?_
      refine z_iconst ho dX1_view_68 ?_
      refine z_icmp_ne (tgt := 79) ho dX1_view_69 (by decide) (by unfold rng; omega) (by unfold rng; omega) (fun c69 => ?_) (fun c69 => ?_)
      · exact absurd rfl c69
      · 
        refine z_aload ho dX1_view_72 rfl ?_
        refine z_aload ho dX1_view_74 rfl ?_
        refine kX1_105 ho hN (c_to _ _ f1.1 f1.2.2.2 kyK.1) dX1_view_76 f1.1 (by omega) (Nat.le_of_ble_eq_true rfl) (by omega) (by omega) (fun u76 h76 => ?_)
        obtain hNv := h76
        have hG := (VG.of hw3 hVw hl12 hKK gz (Nv.to f1 kyK.1 h76)).imp (Q := vwP 1 tp) (fun s => by rw [kyK.2]; unfold vwP; simp)
        rw [w6.1] at hG
        refine z_iload_n ho dX1_view_79 rfl ?_
        refine z_iconst ho dX1_view_80 ?_
        refine z_icmp_ne (tgt := 91) ho dX1_view_81 (by decide) (by unfold rng; omega) (by unfold rng; omega) (fun c81 => ?_) (fun c81 => ?_)
        · 
          refine z_iload_n ho dX1_view_91 rfl ?_
          refine z_iconst ho dX1_view_92 ?_
          refine z_icmp_ne (tgt := 114) ho dX1_view_93 (by decide) (by unfold rng; omega) (by unfold rng; omega) (fun c93 => ?_) (fun c93 => ?_)
          · exact z_cu (by omega) (by omega) (fin _ hG)
          · exact absurd c93 (by decide)
        · exact absurd c81 (by decide)
    · exact absurd c57 (by decide)
  · 
    refine z_astore ho dX1_view_54 (Nat.le_of_ble_eq_true rfl) rfl ?_
    refine z_iload_n ho dX1_view_56 rfl ?_
    refine z_if_ne (tgt := 67) ho dX1_view_57 (by decide) (by unfold rng; omega) (fun c57 => ?_) (fun c57 => ?_)
    · 
      refine z_iload_n ho dX1_view_67 rfl ?_
      refine z_iconst ho dX1_view_68 ?_
      refine z_icmp_ne (tgt := 79) ho dX1_view_69 (by decide) (by unfold rng; omega) (by unfold rng; omega) (fun c69 => ?_) (fun c69 => ?_)
      · 
        refine z_iload_n ho dX1_view_79 rfl ?_
        refine z_iconst ho dX1_view_80 ?_
        refine z_icmp_ne (tgt := 91) ho dX1_view_81 (by decide) (by unfold rng; omega) (by unfold rng; omega) (fun c81 => ?_) (fun c81 => ?_)
        · exact absurd rfl c81
        · 
          refine z_aload ho dX1_view_84 rfl ?_
          refine z_aload ho dX1_view_86 rfl ?_
          refine kX1_108 ho hN (c_from _ _ f1.1 f1.2.2.1 kyK.1) dX1_view_88 f1.1 (by omega) (Nat.le_of_ble_eq_true rfl) (by omega) (by omega) (fun u88 h88 => ?_)
          obtain hNv := h88
          have hG := (VG.of hw3 hVw hl12 hKK gz (Nv.from f1 kyK.1 h88)).imp (Q := vwP 2 tp) (fun s => by rw [kyK.2]; unfold vwP; simp)
          rw [w6.1] at hG
          refine z_iload_n ho dX1_view_91 rfl ?_
          refine z_iconst ho dX1_view_92 ?_
          refine z_icmp_ne (tgt := 114) ho dX1_view_93 (by decide) (by unfold rng; omega) (by unfold rng; omega) (fun c93 => ?_) (fun c93 => ?_)
          · exact z_cu (by omega) (by omega) (fin _ hG)
          · exact absurd c93 (by decide)
      · exact absurd c69 (by decide)
    · exact absurd c57 (by decide)
  · have hN0 : Nv (vcp w bv) (vcp w bv) (sz_ w) (tA x vs.1) K0 lo hi (fun _ => True) := ⟨⟨lo, hi, f1, fun s _ => by simp⟩, fun a _ _ => Sm.rf _ a, Nat.le_refl _, rfl, fun _ => rfl, fun _ _ _ => rfl, fun _ _ => Or.inl rfl⟩
    have hG0 := (VG.of hw3 hVw hl12 hKK gz hN0).imp (Q := vwP 3 tp) (fun s => by unfold vwP; simp)
    have ev3 : iv_ (vcp w bv) (sz_ w) 3 = vs.2.2.1 := by rw [f4]; exact w6.1
    refine z_astore ho dX1_view_54 (Nat.le_of_ble_eq_true rfl) rfl ?_
    refine z_iload_n ho dX1_view_56 rfl ?_
    refine z_if_ne (tgt := 67) ho dX1_view_57 (by decide) (by unfold rng; omega) (fun c57 => ?_) (fun c57 => ?_)
    · 
      refine z_iload_n ho dX1_view_67 rfl ?_
      refine z_iconst ho dX1_view_68 ?_
      refine z_icmp_ne (tgt := 79) ho dX1_view_69 (by decide) (by unfold rng; omega) (by unfold rng; omega) (fun c69 => ?_) (fun c69 => ?_)
      · 
        refine z_iload_n ho dX1_view_79 rfl ?_
        refine z_iconst ho dX1_view_80 ?_
        refine z_icmp_ne (tgt := 91) ho dX1_view_81 (by decide) (by unfold rng; omega) (by unfold rng; omega) (fun c81 => ?_) (fun c81 => ?_)
        · 
          refine z_iload_n ho dX1_view_91 rfl ?_
          refine z_iconst ho dX1_view_92 ?_
          refine z_icmp_ne (tgt := 114) ho dX1_view_93 (by decide) (by unfold rng; omega) (by unfold rng; omega) (fun c93 => ?_) (fun c93 => ?_)
          · exact absurd rfl c93
          · 
            refine z_aload ho dX1_view_96 rfl ?_
            refine z_aload ho dX1_view_98 rfl ?_
            refine gX1_111 ho dX1_view_100 f1.1 ?_
            rw [ev3]
            refine z_if_ne (tgt := 110) ho dX1_view_103 (by decide) (by have := w6.2; unfold rng; omega) (fun c103 => ?_) (fun c103 => ?_)
            · 
              refine z_iconst ho dX1_view_110 ?_
              refine pX1_111 ho dX1_view_111 f1.1 (by omega) ?_
              exact z_cu (by omega) (by omega) (fin _ (by have := hG0.turn (tu' := 0) (Nat.le_refl _); rw [if_pos rfl, show 1 - vs.2.2.1 = 0 by have := w6.2; omega]; exact this))
            · 
              refine z_iconst ho dX1_view_106 ?_
              refine z_goto (tgt := 111) ho dX1_view_107 (by decide) ?_
              refine pX1_111 ho dX1_view_111 f1.1 (by omega) ?_
              exact z_cu (by omega) (by omega) (fin _ (by have := hG0.turn (tu' := 1) (Nat.le_refl _); rw [if_pos rfl, show 1 - vs.2.2.1 = 1 by omega]; exact this))
        · exact absurd c81 (by decide)
      · exact absurd c69 (by decide)
    · exact absurd c57 (by decide)
theorem c_hview (l : Launch) (u : Mem) {x : Nat} {i so : Int} {tp fd : List Int} {M : Nat → List KV} {ch : Nat → Int} {VL : List VS} {Ks : List (List Int)} {T : List Int} {Os : List (List Int)} {vs : VS} (h : HS u x tp fd M ch VL Ks T Os) (h0 : 0 ≤ i) (hj : VL[i.toNat]? = some vs) (s0 : 0 ≤ so) (s4 : so < 4) :
    Mt_ l yX1_view cX1_view 6 (some .int) 10 8 48 [aR x, aI i, aI so] u (qI (qVw x u so vs tp fd M ch VL Ks T Os)) := by
  have hFd := h.2.1
  obtain ⟨kx, q0, q1, q2, q3, q4, q5, q6, q7, q8, kv, lv, hn⟩ := h.2.1
  have g1 := h.1.1
  have hjl := (List.getElem?_eq_some_iff.mp hj).1
  have ei : (i.toNat : Int) = i := Int.toNat_of_nonneg h0
  obtain ⟨S, hTr, hV, hv, hSl⟩ := h.view hj
  rw [ei] at hv
  refine Mt_of (by decide) (Nat.le_of_ble_eq_true rfl) (fun X ho hX hN hI => ?_)
  subst hX
  show Z X 0 [some (aR x), some (aI i), some (aI so), none, none, none] [] u 0 0
  refine z_wf (fun hw => ?_)
  have hz2 := hw.2.2
  obtain ⟨n1, n2, n3, n4, n5, n6⟩ := nky_facts (u := u) (K := 2) (Or.inl rfl)
  have e0 : wR_ (al_ (al_ u 2 0) 101 8) (sz_ u) 0 (sz_ (al_ u 2 0)) = nky u 2 := rfl
  have sn : ∀ a, a < sz_ u → Sm u (nky u 2) a := fun a ha => n5.2 a ha (fun z => z)
  have H1 := h.grow hw (v := nky u 2) (by omega) sn
  refine z_aload_n ho dX1_view_0 rfl ?_
  refine z_iload_n ho dX1_view_1 rfl ?_
  refine kX1_91 ho hN (c_of_ _ _ h.2.1 h0 (by omega)) dX1_view_2 kx (by omega) (Nat.le_of_ble_eq_true rfl) (by omega) (by omega) (fun x2 u2 h2 => ?_)
  obtain ⟨rfl, rfl⟩ := h2
  refine z_astore_n ho dX1_view_5 (Nat.le_of_ble_eq_true rfl) rfl ?_
  refine z_iload_n ho dX1_view_6 rfl ?_
  refine z_if_lt (tgt := 19) ho dX1_view_7 (by decide) (by unfold rng; omega) (fun c7 => ?_) (fun c7 => ?_)
  · omega
  · 
    refine z_iload_n ho dX1_view_10 rfl ?_
    refine z_iconst ho dX1_view_11 ?_
    refine z_icmp_ge (tgt := 19) ho dX1_view_12 (by decide) (by unfold rng; omega) (by unfold rng; omega) (fun c12 => ?_) (fun c12 => ?_)
    · omega
    · 
      refine z_iconst ho dX1_view_15 ?_
      refine z_goto (tgt := 20) ho dX1_view_16 (by decide) ?_
      refine kX1_76 ho hN (c_need _ _) dX1_view_20 (by omega) (Nat.le_of_ble_eq_true rfl) (by omega) (by omega) (fun u20 h20 => ?_)
      obtain rfl := h20
      refine nX1_7 ho dX1_view_23 (Nat.le_of_ble_eq_true rfl) (Nat.le_of_ble_eq_true rfl) ?_
      refine z_dup ho dX1_view_26 rfl ?_
      refine kX1_9 ho hN (c_Key_init _ _ (Or.inl (by rw [kd_al, if_pos rfl]))) dX1_view_27 (by omega) (by omega) (Nat.le_of_ble_eq_true rfl) (by omega) (by omega) (fun u27 h27 => ?_)
      obtain rfl := h27
      rw [e0]
      refine z_aload_n ho dX1_view_30 rfl ?_
      refine kX1_95 ho hN (c_use _ _ H1) dX1_view_31 H1.2.1.1 (by omega) (Nat.le_of_ble_eq_true rfl) (by omega) (by omega) (fun x31 u31 h31 => ?_)
      obtain ⟨rfl, u2, u3, u4, u5, u6⟩ := h31
      have kc : Kc u31 (sz_ u) := by
        have s1 := u6 (sz_ u) (by omega) (by omega) (by omega)
        have s2 := u6 (sz_ u + 1) (by omega) (by omega) (by omega)
        obtain ⟨k1, k2, k3, k4⟩ := n1
        exact ⟨by unfold isK_ at k1 ⊢; rw [s1.1]; exact k1, by rw [s1.2.2.2]; exact k2, by rw [s2.1]; exact k3, by rw [s2.2.1]; exact k4⟩
      have kz : ∀ j : Int, 0 ≤ j → j < 8 → 0 ≤ iv_ u31 (sz_ u + 1) j ∧ iv_ u31 (sz_ u + 1) j < 65536 := fun j _ _ => by
        rw [(u6 (sz_ u + 1) (by omega) (by omega) (by omega)).2.2.1, n4]; decide
      obtain ⟨c1, c2, c3, c4⟩ := cpy_facts kc u2.1 (by omega) kz
      have k2' : kd_ u31 (sz_ u) = 2 := by rw [(u6 (sz_ u) (by omega) (by omega) (by omega)).1]; exact n6
      refine kX1_80 ho hN (c_copy _ _ kc u2.1 (by omega)) dX1_view_34 kc.1 (by omega) (Nat.le_of_ble_eq_true rfl) (by omega) (by omega) (fun x34 u34 h34 => ?_)
      obtain ⟨rfl, rfl⟩ := h34
      refine z_wf (fun hw3 => ?_)
      rw [u2.2.2] at c2
      have szw : sz_ (cpy u31 (sz_ u) (x + 28)) = sz_ u + 2 := by show sz_ u31 = _; omega
      have kw : kd_ (cpy u31 (sz_ u) (x + 28)) (sz_ u) = 2 := k2'
      have sw : ∀ a, a < sz_ u → ¬ kC x a → Sm u (cpy u31 (sz_ u) (x + 28)) a := fun a ha hn => ((sn a ha).tr (u6 a (fun z => hn (Or.inl z)) (fun z => hn (by unfold kC; simp [z])) (fun z => hn (by unfold kC; simp [z])))).tr (c3 a (by omega) (by omega))
      have klw : ∀ a, a < sz_ u → kd_ (cpy u31 (sz_ u) (x + 28)) a = kd_ u a ∧ ln_ (cpy u31 (sz_ u) (x + 28)) a = ln_ u a := fun a ha => ⟨(u5 a (by omega)).1.trans (sn a ha).1, (u5 a (by omega)).2.trans (sn a ha).2.1⟩
      have c3' : ∀ a, a < x + 64 → Sm u31 (cpy u31 (sz_ u) (x + 28)) a := fun a ha => c3 a (by omega) (by omega)
      have H3 : HS (cpy u31 (sz_ u) (x + 28)) x [] fd M ch VL Ks T Os := h.keys hw (by omega) klw sw (u3.2.2.1.same (c3' _ (by omega)) (c3' _ (by omega))) (u3.2.2.2.1.same (c3' _ (by omega)) (c3' _ (by omega))) (u2.same (c3' _ (by omega)) (c3' _ (by omega)))
      obtain ⟨hT3, hV3, hK3⟩ := h.keepS hTr hV hw (by omega) klw sw
      have M3 : MR x u (cpy u31 (sz_ u) (x + 28)) := ⟨by omega, fun a q1 q2 => sw a (by omega) (by unfold kC; omega)⟩
      have s3 := sw (x + 3) (by omega) (by unfold kC; omega)
      have hv3 := hV3.1 i.toNat vs hj
      rw [s3.2.2.2, ei] at hv3
      generalize cpy u31 (sz_ u) (x + 28) = w at *
      obtain ⟨kxw, r0, r1, r2, r3, r4, r5, r6, r7, r8, kvw, lvw, -⟩ := H3.2.1
      generalize hBV : rv_ u (x + 3) i = bv at *
      have hv3' := hv3
      obtain ⟨w1, w2, ⟨lo, hi, hVw, hR⟩, w4, w5, w6, -⟩ := hv3
      have gz := H3.1.1
      have hl12 : ∀ k : Int, (k = 1 ∨ k = 2) → rv_ w bv k = 0 ∨ (x + 64 ≤ rv_ w bv k ∧ kd_ w (rv_ w bv k) = 2) := fun k hk => by
        rcases hk with z | z <;> rw [z]
        · exact w4
        · exact w5
      refine z_astore ho dX1_view_37 (Nat.le_of_ble_eq_true rfl) rfl ?_
      refine z_aload_n ho dX1_view_39 rfl ?_
      refine gX1_22 ho dX1_view_40 kxw ?_
      rw [r2]
      refine z_bipush ho dX1_view_43 rfl ?_
      refine z_icmp_ne (tgt := 50) ho dX1_view_45 (by decide) (by unfold rng; omega) (by unfold rng; omega) (fun c45 => ?_) (fun c45 => ?_)
      · -- a new view
        have hky : Ky w (sz_ u) ∧ tx w (sz_ u) = tp := ⟨c1, c2⟩
        exact z_cu (Nat.le_of_ble_eq_true rfl) (Nat.le_of_ble_eq_true rfl) (view_tail u w ho hN H3 hw3 hT3 hV3 M3 (by omega) w2 w6 hVw hR hl12 ⟨g1, kw⟩ hky s0 s4)
      · 
        refine z_iconst ho dX1_view_48 ?_
        refine r_I ho dX1_view_49 (Nat.le_of_ble_eq_true rfl) (Nat.le_of_ble_eq_true rfl) ?_
        exact ⟨M3, Or.inl ⟨by omega, rfl, H3⟩⟩
theorem t_hview (l : Launch) (hst : l.stackTraces = false) (u : Mem) {x : Nat} {i so : Int} {tp fd : List Int} {M : Nat → List KV} {ch : Nat → Int} {VL : List VS} {Ks : List (List Int)} {T : List Int} {Os : List (List Int)} (h : HS u x tp fd M ch VL Ks T Os) (ri : rng i) (rs : rng so) (hn : ¬ (0 ≤ i ∧ i < VL.length) ∨ ¬ (0 ≤ so ∧ so < 4)) : Th_ l yX1_view cX1_view 6 (some .int) 10 8 48 [aR x, aI i, aI so] u (qTh 19 x u tp fd M ch VL Ks T Os) := by
  have kx := h.2.1.1
  refine Th_of (by decide) (Nat.le_of_ble_eq_true rfl) (fun X ho hT hX hN => ?_)
  subst hX
  show Z X 0 [some (aR x), some (aI i), some (aI so), none, none, none] [] u 0 0
  refine z_wf (fun hw => ?_)
  by_cases hi : 0 ≤ i ∧ i < VL.length
  · have t19 : Z X 19 [some (aR x), some (aI i), some (aI so), some (aR (rv_ u (x + 3) i)), none, none] [] u (0 + 1) (0 + 6) := by
      refine z_iconst ho dX1_view_19 ?_
      refine tX1_76 ho hT hN (t_need _ hst _) dX1_view_20 (by omega) (Nat.le_of_ble_eq_true rfl) (by omega) (by omega) (fun x20 u20 h20 => ?_)
      exact qTh_ex h hw h20
    refine z_aload_n ho dX1_view_0 rfl ?_
    refine z_iload_n ho dX1_view_1 rfl ?_
    refine kX1_91 ho hN (c_of_ _ _ h.2.1 hi.1 hi.2) dX1_view_2 kx (by omega) (Nat.le_of_ble_eq_true rfl) (by omega) (by omega) (fun x2 u2 h2 => ?_)
    obtain ⟨rfl, rfl⟩ := h2
    refine z_astore_n ho dX1_view_5 (Nat.le_of_ble_eq_true rfl) rfl ?_
    refine z_iload_n ho dX1_view_6 rfl ?_
    refine z_if_lt (tgt := 19) ho dX1_view_7 (by decide) rs (fun c7 => ?_) (fun c7 => ?_)
    · exact t19
    · 
      refine z_iload_n ho dX1_view_10 rfl ?_
      refine z_iconst ho dX1_view_11 ?_
      refine z_icmp_ge (tgt := 19) ho dX1_view_12 (by decide) rs (by unfold rng; omega) (fun c12 => ?_) (fun c12 => ?_)
      · exact t19
      · omega
  · 
    refine z_aload_n ho dX1_view_0 rfl ?_
    refine z_iload_n ho dX1_view_1 rfl ?_
    refine tX1_91 ho hT hN (t_of_ _ hst _ h.2.1 ri hi) dX1_view_2 kx (Nat.le_of_ble_eq_true rfl) (Nat.le_of_ble_eq_true rfl) (Nat.le_of_ble_eq_true rfl) (Nat.le_of_ble_eq_true rfl) (fun x2 u2 h2 => ?_)
    exact qTh_ex h hw h2
