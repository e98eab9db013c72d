set_option maxRecDepth 100000
/-! ===== KeyHallModel: put, view, size, found, iterate ===== -/
/-- the first n of a text are copied from s of array b to d of array a -/
def cpA (u : Mem) (a b : Nat) (d s n : Int) : Mem := (u.1, u.2.1, u.2.2.1, (fun c j => if c = a ∧ d ≤ j ∧ j < d + n then u.2.2.2.1 b (s + (j - d)) else u.2.2.2.1 c j), u.2.2.2.2)
theorem cpA_iv (u : Mem) (a b : Nat) (d s n : Int) (c : Nat) (j : Int) : iv_ (cpA u a b d s n) c j = if c = a ∧ d ≤ j ∧ j < d + n then iv_ u b (s + (j - d)) else iv_ u c j := rfl
theorem cpA_0 (u : Mem) (a b : Nat) (d s : Int) : cpA u a b d s 0 = u := mem_ext rfl (fun _ => rfl) (fun _ => rfl) (fun c j => by rw [cpA_iv, if_neg (by omega)]) (fun _ _ => rfl)
theorem cpA_s {u : Mem} {a b : Nat} {d s : Int} (hab : a ≠ b) (n : Nat) : iv_ (cpA u a b d s n) b (s + n) = iv_ u b (s + n) ∧ wI_ (cpA u a b d s n) a (d + n) (iv_ u b (s + n)) = cpA u a b d s (n + 1 : Nat) := by
  refine ⟨by rw [cpA_iv, if_neg (fun z => hab z.1.symm)], mem_ext rfl (fun _ => rfl) (fun _ => rfl) (fun c j => ?_) (fun _ _ => rfl)⟩
  rw [iv_wI, cpA_iv, cpA_iv]
  by_cases hc : c = a
  · by_cases z : j = d + n
    · rw [if_pos ⟨hc, z⟩, if_pos ⟨hc, by omega, by omega⟩]
      congr 1; omega
    · rw [if_neg (fun y => z y.2)]
      by_cases y : d ≤ j ∧ j < d + n
      · rw [if_pos ⟨hc, y⟩, if_pos ⟨hc, y.1, by omega⟩]
      · rw [if_neg (fun q => y q.2), if_neg (fun q => y ⟨q.2.1, by omega⟩)]
  · rw [if_neg (fun y => hc y.1), if_neg (fun y => hc y.1), if_neg (fun y => hc y.1)]
theorem cpA_cg {m : Nat} {u v : Mem} {fs : List Int} {as : List Nat} (h : Cg m u v fs as) {j b : Nat} {d s n : Int} (hj : j ∈ as) (h1 : 1 ≤ j) (h29 : j < 29) : Cg m u (cpA v (m + j) b d s n) fs as := ⟨⟨h.1.1, h.1.2.1, h.1.2.2.1, fun a ha k => by rw [cpA_iv, if_neg (by omega)]; exact h.1.2.2.2 a ha k⟩, fun k hk => by rw [cpA_iv, if_neg (by omega)]; exact h.2.1 k hk, fun i q1 q2 => by
    rw [← h.2.2 i q1 q2]
    funext k
    rw [cpA_iv, if_neg (fun z => q2 (by rw [show i = j by omega]; exact hj))]⟩
theorem cpA_o {u : Mem} {a b c : Nat} {d s n : Int} (h : c ≠ a) : iv_ (cpA u a b d s n) c = iv_ u c := funext fun j => by rw [cpA_iv, if_neg (fun z => h z.1)]
/-- the copy holds the text -/
theorem cpA_sub {u : Mem} {a b : Nat} {d s : Int} {t : List Int} (h : sub_ (iv_ u b) s t.length = t) : sub_ (iv_ (cpA u a b d s t.length) a) d t.length = t := by
  conv => rhs; rw [← h]
  refine sub_ext (fun j j0 j1 => ?_)
  rw [cpA_iv, if_pos ⟨rfl, by omega, by omega⟩]
  congr 1; omega
/-- a key is added -/
theorem MM.add {u v : Mem} {m i : Nat} {M : Nat → List KV} {ch : Nat → Int} {t : List Int} {w : Int} (h : MM u m M ch) (hi : i < 3) (hl : (M i).length < 40) (ht : Tx t) (hw : rng w) (hno : ∀ p ∈ M i, p.1 ≠ t) (e4 : ∀ j : Int, ¬ (8 * (64 * (i : Int) + (M i).length) ≤ j ∧ j < 8 * (64 * (i : Int) + (M i).length) + t.length) → iv_ v (m + 4) j = iv_ u (m + 4) j) (t4 : sub_ (iv_ v (m + 4)) (8 * (64 * (i : Int) + (M i).length)) t.length = t) (e5 : ∀ j : Int, iv_ v (m + 5) j = if j = 64 * (i : Int) + (M i).length then (t.length : Int) else iv_ u (m + 5) j) (e6 : ∀ j : Int, iv_ v (m + 6) j = if j = 64 * (i : Int) + (M i).length then w else iv_ u (m + 6) j) (e2 : ∀ j : Int, iv_ v (m + 2) j = if j = (i : Int) then ((M i).length : Int) + 1 else iv_ u (m + 2) j) (e3 : ∀ j : Int, iv_ v (m + 3) j = if j = (i : Int) then ch i + 1 else iv_ u (m + 3) j) :
    MM v m (fun q => if q = i then M i ++ [(t, w)] else M q) (fun q => if q = i then ch i + 1 else ch q) := by
  intro q hq
  obtain ⟨h1, h2, h3, h4, h5⟩ := h q hq
  have h3' := (h i hi).2.2.1
  have tl := ht.1
  simp only
  have old : ∀ (j : Nat) p, (M q)[j]? = some p → iv_ v (m + 5) (64 * (q : Int) + (j : Int)) = (p.1.length : Int) ∧ sub_ (iv_ v (m + 4)) (8 * (64 * (q : Int) + (j : Int))) p.1.length = p.1 ∧ iv_ v (m + 6) (64 * (q : Int) + (j : Int)) = p.2 ∧ Tx p.1 ∧ rng p.2 := fun j p hj => by
    obtain ⟨r1, r2, r3, r4, r5⟩ := h5 j p hj
    have hjl := (List.getElem?_eq_some_iff.mp hj).1
    have l0 := r4.1
    have : (64 * (q : Int) + j) ≠ 64 * (i : Int) + (M i).length := by
      by_cases z : q = i
      · subst z; omega
      · rcases Nat.lt_or_gt_of_ne z with y | y <;> omega
    refine ⟨by rw [e5, if_neg this]; exact r1, ?_, by rw [e6, if_neg this]; exact r3, r4, r5⟩
    conv => rhs; rw [← r2]
    refine sub_ext (fun y y0 y1 => ?_)
    rw [e4 _ (by omega)]
  by_cases z : q = i
  · subst z
    rw [if_pos rfl, if_pos rfl]
    refine ⟨by rw [e2, if_pos rfl, List.length_append]; rfl, by rw [e3, if_pos rfl], by rw [List.length_append]; simp; omega, ?_, fun j p hj => ?_⟩
    · rw [List.map_append]
      refine List.nodup_append.mpr ⟨h4, by simp, fun a ha b hb => ?_⟩
      simp at hb
      obtain ⟨p, hp, rfl⟩ := List.mem_map.mp ha
      rw [hb]
      exact hno p hp
    · by_cases y : j < (M q).length
      · rw [List.getElem?_append_left y] at hj
        exact old j p hj
      · have hjl := (List.getElem?_eq_some_iff.mp hj).1
        rw [List.length_append] at hjl
        simp at hjl
        have hje : j = (M q).length := by omega
        rw [hje, List.getElem?_concat_length] at hj
        cases hj
        rw [hje]
        exact ⟨by rw [e5, if_pos rfl], t4, by rw [e6, if_pos rfl], ht, hw⟩
  · rw [if_neg z, if_neg z]
    exact ⟨by rw [e2, if_neg (by omega)]; exact h1, by rw [e3, if_neg (by omega)]; exact h2, h3, h4, old⟩
/-- a value changes -/
theorem MM.val {u v : Mem} {m i k : Nat} {M : Nat → List KV} {ch : Nat → Int} {p : KV} {w : Int} (h : MM u m M ch) (hi : i < 3) (hk : (M i)[k]? = some p) (hw : rng w) (e4 : iv_ v (m + 4) = iv_ u (m + 4)) (e5 : iv_ v (m + 5) = iv_ u (m + 5)) (e6 : ∀ j : Int, iv_ v (m + 6) j = if j = 64 * (i : Int) + k then w else iv_ u (m + 6) j) (e2 : iv_ v (m + 2) = iv_ u (m + 2)) (e3 : iv_ v (m + 3) = iv_ u (m + 3)) :
    MM v m (fun q => if q = i then (M i).take k ++ (p.1, w) :: (M i).drop (k + 1) else M q) ch := by
  have hkl := (List.getElem?_eq_some_iff.mp hk).1
  have hs := take_drop_cons hk
  have hlen : ((M i).take k ++ (p.1, w) :: (M i).drop (k + 1)).length = (M i).length := by
    rw [List.length_append, List.length_cons, List.length_take, List.length_drop]; omega
  intro q hq
  obtain ⟨h1, h2, h3, h4, h5⟩ := h q hq
  have h3' := (h i hi).2.2.1
  simp only
  have old : ∀ (j : Nat) p, (q ≠ i ∨ j ≠ k) → (M q)[j]? = some p → iv_ v (m + 5) (64 * (q : Int) + (j : Int)) = (p.1.length : Int) ∧ sub_ (iv_ v (m + 4)) (8 * (64 * (q : Int) + (j : Int))) p.1.length = p.1 ∧ iv_ v (m + 6) (64 * (q : Int) + (j : Int)) = p.2 ∧ Tx p.1 ∧ rng p.2 := fun j p hn hj => by
    obtain ⟨r1, r2, r3, r4, r5⟩ := h5 j p hj
    have hjl := (List.getElem?_eq_some_iff.mp hj).1
    have : (64 * (q : Int) + j) ≠ 64 * (i : Int) + k := by
      by_cases z : q = i
      · subst z; omega
      · rcases Nat.lt_or_gt_of_ne z with y | y <;> omega
    exact ⟨by rw [e5]; exact r1, by rw [e4]; exact r2, by rw [e6, if_neg this]; exact r3, r4, r5⟩
  by_cases z : q = i
  · subst z
    rw [if_pos rfl, hlen]
    refine ⟨by rw [e2]; exact h1, by rw [e3]; exact h2, h3, ?_, fun j p' hj => ?_⟩
    · have : ((M q).take k ++ (p.1, w) :: (M q).drop (k + 1)).map Prod.fst = (M q).map Prod.fst := by
        conv => rhs; rw [hs]
        simp
      rw [this]; exact h4
    · have hl : ((M q).take k).length = k := by rw [List.length_take]; omega
      by_cases y : j = k
      · rw [y, List.getElem?_append_right (by omega), hl, Nat.sub_self, List.getElem?_cons_zero] at hj
        cases hj
        obtain ⟨r1, r2, r3, r4, r5⟩ := h5 k p hk
        rw [y]
        exact ⟨by rw [e5]; exact r1, by rw [e4]; exact r2, by rw [e6, if_pos rfl], r4, hw⟩
      · refine old j p' (Or.inr y) ?_
        rcases Nat.lt_or_gt_of_ne y with x | x
        · rw [List.getElem?_append_left (by omega), List.getElem?_take, if_pos x] at hj
          exact hj
        · rw [List.getElem?_append_right (by omega), hl, show j - k = (j - k - 1) + 1 by omega, List.getElem?_cons_succ, List.getElem?_drop, show k + 1 + (j - k - 1) = j by omega] at hj
          exact hj
  · rw [if_neg z]
    exact ⟨by rw [e2]; exact h1, by rw [e3]; exact h2, h3, h4, fun j p hj => old j p (Or.inl z) hj⟩
theorem c_mput (l : Launch) (u : Mem) {m N : Nat} {i w : Int} {tp fd : List Int} {M : Nat → List KV} {ch : Nat → Int} {VL : List VS} {Ks : List (List Int)} {T : List Int} {Os : List (List Int)} (h : MS u m N tp fd M ch VL Ks T Os) (ri : rng i) (rw_ : rng w) (hc : ∀ k, k < 3 → ch k < 1000000) (hl : ∀ k, k < 3 → (M k).length < 39) :
    Mt_ l yX13_put cX13_put 7 (some .int) 4 0 0 [aR m, aI i, aI w] u (qI fun r v => (¬ (0 ≤ i ∧ i < VL.length) ∧ qM m N u 1 tp fd M ch VL Ks T Os v) ∨ (∃ vs, 0 ≤ i ∧ VL[i.toNat]? = some vs ∧ (((w < 0 ∨ ¬ vs.2.1 tp) ∧ qM m N u 2 [] fd M ch VL Ks T Os v) ∨ (0 ≤ w ∧ vs.2.1 tp ∧ ((∃ A B, M vs.1 = A ++ (tp, r) :: B ∧ qM m N u 0 [] fd (fun k => if k = vs.1 then A ++ (tp, w) :: B else M k) ch VL Ks T Os v) ∨ ((∀ p ∈ M vs.1, p.1 ≠ tp) ∧ r = -1 ∧ qM m N u 0 [] fd (fun k => if k = vs.1 then M vs.1 ++ [(tp, w)] else M k) (fun k => if k = vs.1 then ch vs.1 + 1 else ch k) VL Ks T Os v)))))) := by
  have hm := h.1
  have h2 := h.2.1.1
  refine Mt_of (by decide) (Nat.le_of_ble_eq_true rfl) (fun X ho hX hN hI => ?_)
  subst hX
  show Z X 0 [some (aR m), some (aI i), some (aI w), none, none, none, none] [] u 0 0
  refine z_aload_n ho dX13_put_0 rfl ?_
  refine z_iload_n ho dX13_put_1 rfl ?_
  refine kX13_122 ho hN (c_isView _ _ hm h.2.2.2.2.1.1 h.2.2.2.2.1.2.1 ri) dX13_put_2 hm.1 (Nat.le_of_ble_eq_true rfl) (Nat.le_of_ble_eq_true rfl) (Nat.le_of_ble_eq_true rfl) (Nat.le_of_ble_eq_true rfl) (fun x2 u2 h2 => ?_)
  obtain ⟨rfl, hs⟩ := h2
  refine z_if_ne (tgt := 14) ho dX13_put_5 (by decide) (by rcases hs with ⟨z, -⟩ | ⟨z, -⟩ <;> rw [z] <;> unfold rng <;> omega) (fun c5 => ?_) (fun c5 => ?_)
  · have hin := (hs.resolve_right (fun z => c5 z.1)).2
    have hvs : VL[i.toNat]? = some VL[i.toNat] := List.getElem?_eq_getElem (by omega)
    generalize VL[i.toNat] = vs at hvs
    have ei : (i.toNat : Int) = i := Int.toNat_of_nonneg hin.1
    have v3 := (h.2.2.2.2.1.2.2 _ vs hvs).1
    have htx := h.2.1.2.2
    have c0 : Cg m u (wI_ u m 2 0) [0, 2] [2, 3, 4, 5, 6] := (Cg.rf m u _ _).f 2 0 (by decide)
    have ta : TA (wI_ u m 2 0) (m + 1) 0 tp := by
      obtain ⟨q1, q2, q3, q4, q5, q6⟩ := h.2.1.ta hm
      exact ⟨q1, q2, q3, by rw [ivf (by omega)]; exact q4, q5, q6⟩
    have c0' : Cg m u (wI_ u m 2 0) [2] [] := (Cg.rf m u _ _).f 2 0 (by decide)
    have hV := h.2.2.2.2.1.cg c0' (by decide) (by decide)
    have hK := h.2.2.2.1.cg c0' (by decide)
    have hwi := c_within (La_ X) (wI_ u m 2 0) hm hV hvs ta
    have hmo := c_mapOf (La_ X) (wI_ u m 2 0) hm hV hvs
    have hko := c_keyOf (La_ X) (wI_ u m 2 0) hm hK v3 ta
    rw [ei] at hwi hmo
    refine z_aload_n ho dX13_put_14 rfl ?_
    refine gX13_102 ho dX13_put_15 hm.1 ?_
    refine z_istore_n ho dX13_put_18 (Nat.le_of_ble_eq_true rfl) rfl ?_
    rw [h2]
    have bad : (w < 0 ∨ ¬ vs.2.1 tp) → Z X 42 [some (aR m), some (aI i), some (aI w), some (aI tp.length), none, none, none] [] (wI_ u m 2 0) 0 0 := fun hb => by
      refine z_aload_n ho dX13_put_42 rfl ?_
      refine z_iconst ho dX13_put_43 ?_
      refine kX13_126 ho hN (c_raise _ _ hm) dX13_put_44 hm.1 (Nat.le_of_ble_eq_true rfl) (Nat.le_of_ble_eq_true rfl) (Nat.le_of_ble_eq_true rfl) (Nat.le_of_ble_eq_true rfl) (fun x44 u44 h44 => ?_)
      obtain ⟨rfl, rfl⟩ := h44
      refine r_I ho dX13_put_47 (Nat.le_of_ble_eq_true rfl) (Nat.le_of_ble_eq_true rfl) ?_
      exact Or.inr ⟨vs, hin.1, hvs, Or.inl ⟨hb, qM_raise2 h⟩⟩
    refine z_aload_n ho dX13_put_19 rfl ?_
    refine z_iconst ho dX13_put_20 ?_
    refine pX13_102 ho dX13_put_21 hm.1  ?_
    refine z_iload_n ho dX13_put_24 rfl ?_
    refine z_if_lt (tgt := 42) ho dX13_put_25 (by decide) rw_ (fun c25 => ?_) (fun c25 => ?_)
    · exact bad (Or.inl c25)
    · 
      refine z_aload_n ho dX13_put_28 rfl ?_
      refine z_iload_n ho dX13_put_29 rfl ?_
      refine z_aload_n ho dX13_put_30 rfl ?_
      refine gX13_7 ho dX13_put_31 hm.1 (mget hm.r1 ?_)
      refine z_iconst ho dX13_put_34 ?_
      refine z_iload_n ho dX13_put_35 rfl ?_
      refine kX13_118 ho hN (hwi) dX13_put_36 hm.1 (Nat.le_of_ble_eq_true rfl) (Nat.le_of_ble_eq_true rfl) (Nat.le_of_ble_eq_true rfl) (Nat.le_of_ble_eq_true rfl) (fun x36 u36 h36 => ?_)
      obtain ⟨rfl, hs'⟩ := h36
      refine z_if_ne (tgt := 48) ho dX13_put_39 (by decide) (by rcases hs' with ⟨z, -⟩ | ⟨z, -⟩ <;> rw [z] <;> unfold rng <;> omega) (fun c39 => ?_) (fun c39 => ?_)
      · have hR := (hs'.resolve_right (fun z => c39 z.1)).2
        have hl39 := hl vs.1 v3
        have g1 := (hK vs.1 v3).1
        have g2 := (hK vs.1 v3).2.1
        obtain ⟨-, a2, a3, a4, a5, a6, a7, a8, a9⟩ := h
        refine z_aload_n ho dX13_put_48 rfl ?_
        refine z_iload_n ho dX13_put_49 rfl ?_
        refine kX13_114 ho hN (hmo) dX13_put_50 hm.1 (Nat.le_of_ble_eq_true rfl) (Nat.le_of_ble_eq_true rfl) (Nat.le_of_ble_eq_true rfl) (Nat.le_of_ble_eq_true rfl) (fun x50 u50 h50 => ?_)
        obtain ⟨rfl, rfl⟩ := h50
        refine z_istore ho dX13_put_53 (Nat.le_of_ble_eq_true rfl) rfl ?_
        refine z_aload_n ho dX13_put_55 rfl ?_
        refine z_iload ho dX13_put_56 rfl ?_
        refine z_aload_n ho dX13_put_58 rfl ?_
        refine gX13_7 ho dX13_put_59 hm.1 (mget hm.r1 ?_)
        refine z_iconst ho dX13_put_62 ?_
        refine z_iload_n ho dX13_put_63 rfl ?_
        refine kX13_133 ho hN (hko) dX13_put_64 hm.1 (Nat.le_of_ble_eq_true rfl) (Nat.le_of_ble_eq_true rfl) (Nat.le_of_ble_eq_true rfl) (Nat.le_of_ble_eq_true rfl) (fun x64 u64 h64 => ?_)
        obtain ⟨rfl, hk⟩ := h64
        rcases hk with ⟨z1, z2⟩ | ⟨k, p, z1, z2, z3⟩
        · subst z1
          refine z_istore ho dX13_put_67 (Nat.le_of_ble_eq_true rfl) rfl ?_
          refine z_iload ho dX13_put_69 rfl ?_
          refine z_iconst ho dX13_put_71 ?_
          refine z_icmp_ne (tgt := 93) ho dX13_put_72 (by decide) (by unfold rng; omega) (by unfold rng; omega) (fun c72 => ?_) (fun c72 => ?_)
          · exact absurd rfl c72
          · 
            refine z_aload_n ho dX13_put_75 rfl ?_
            refine gX13_13 ho dX13_put_76 hm.1 (mget hm.r3 ?_)
            refine z_iload ho dX13_put_79 rfl ?_
            refine z_iald ho dX13_put_81 hm.k2 (by omega) (hm.t2 (by omega)) ?_
            refine z_bipush ho dX13_put_82 rfl ?_
            refine z_icmp_ne (tgt := 93) ho dX13_put_84 (by decide) (by rw [g1]; unfold rng; omega) (by unfold rng; omega) (fun c84 => ?_) (fun c84 => ?_)
            · have e1 : iv_ (wI_ (wI_ u m 2 0) m 0 0) (m + 2) (vs.1 : Int) = (M vs.1).length := by rw [ivf (by omega)]; exact g1
              refine z_aload_n ho dX13_put_93 rfl ?_
              refine z_iconst ho dX13_put_94 ?_
              refine pX13_99 ho dX13_put_95 hm.1  ?_
              refine z_iload ho dX13_put_98 rfl ?_
              refine z_iconst ho dX13_put_100 ?_
              refine z_icmp_eq (tgt := 124) ho dX13_put_101 (by decide) (by unfold rng; omega) (by unfold rng; omega) (fun c101 => ?_) (fun c101 => ?_)
              · 
                refine z_bipush ho dX13_put_124 rfl ?_
                refine z_iload ho dX13_put_126 rfl ?_
                refine z_imul ho dX13_put_128 ?_
                refine z_aload_n ho dX13_put_129 rfl ?_
                refine gX13_13 ho dX13_put_130 hm.1 (mget hm.r3 ?_)
                refine z_iload ho dX13_put_133 rfl ?_
                refine z_iald ho dX13_put_135 hm.k2 (by omega) (hm.t2 (by omega)) ?_
                rw [e1]
                have c1 : Cg m u (wI_ (wI_ u m 2 0) m 0 0) [0, 2] [2, 3, 4, 5, 6] := c0.f 0 0 (by decide)
                generalize hw1 : wI_ (wI_ u m 2 0) m 0 0 = w1 at *
                have x1 : iv_ w1 (m + 1) = iv_ u (m + 1) := c1.2.2 1 (by decide) (by decide)
                have y4 : iv_ w1 (m + 4) = iv_ u (m + 4) := by rw [← hw1, ivf (by omega), ivf (by omega)]
                have y5 : iv_ w1 (m + 5) = iv_ u (m + 5) := by rw [← hw1, ivf (by omega), ivf (by omega)]
                have y6 : iv_ w1 (m + 6) = iv_ u (m + 6) := by rw [← hw1, ivf (by omega), ivf (by omega)]
                have y2 : iv_ w1 (m + 2) = iv_ u (m + 2) := by rw [← hw1, ivf (by omega), ivf (by omega)]
                have y3 : iv_ w1 (m + 3) = iv_ u (m + 3) := by rw [← hw1, ivf (by omega), ivf (by omega)]
                have z0 : iv_ w1 m 0 = 0 := by rw [← hw1, iv_wI, if_pos ⟨rfl, rfl⟩]
                have z2' : iv_ w1 m 2 = 0 := by rw [← hw1, iv_wI, if_neg (by omega), iv_wI, if_pos ⟨rfl, rfl⟩]
                have hm1 := hm.im c1.1
                have g3 : iv_ u (m + 3) (vs.1 : Int) = ch vs.1 := by rw [ivf (by omega)] at g2; exact g2
                have tl := htx.1
                clear hw1 hwi hmo hko hV hK ta c0 c0' bad
                have key : ∀ (d n : Nat), d + n = tp.length → Z X 142 [some (aR m), some (aI i), some (aI w), some (aI tp.length), some (aI (vs.1 : Int)), some (aI (64 * (vs.1 : Int) + (M vs.1).length)), some (aI (n : Int))] [] (cpA w1 (m + 4) (m + 1) (8 * (64 * (vs.1 : Int) + (M vs.1).length)) 0 n) 0 0 := by
                  intro d
                  induction d with
                  | zero =>
                    intro n hn
                    have hnl : n = tp.length := by omega
                    have c2 : Cg m u (cpA w1 (m + 4) (m + 1) (8 * (64 * (vs.1 : Int) + (M vs.1).length)) 0 n) [0, 2] [2, 3, 4, 5, 6] := cpA_cg c1 (by decide) (by decide) (by decide)
                    have t4 := cpA_sub (u := w1) (a := m + 4) (b := m + 1) (d := 8 * (64 * (vs.1 : Int) + (M vs.1).length)) (s := 0) (t := tp) (by rw [x1]; exact a2.2.1)
                    rw [← hnl] at t4
                    have o4 : ∀ j : Int, ¬ (8 * (64 * (vs.1 : Int) + (M vs.1).length) ≤ j ∧ j < 8 * (64 * (vs.1 : Int) + (M vs.1).length) + tp.length) → iv_ (cpA w1 (m + 4) (m + 1) (8 * (64 * (vs.1 : Int) + (M vs.1).length)) 0 n) (m + 4) j = iv_ u (m + 4) j := fun j hj => by
                      rw [cpA_iv, if_neg (fun z => hj ⟨z.2.1, by omega⟩), y4]
                    have oth : ∀ c, c ≠ m + 4 → iv_ (cpA w1 (m + 4) (m + 1) (8 * (64 * (vs.1 : Int) + (M vs.1).length)) 0 n) c = iv_ w1 c := fun c hc => cpA_o hc
                    generalize cpA w1 (m + 4) (m + 1) (8 * (64 * (vs.1 : Int) + (M vs.1).length)) 0 n = w2 at *
                    have hm2 := hm.im c2.1
                    refine z_iload ho dX13_put_142 rfl ?_
                    refine z_iload_n ho dX13_put_144 rfl ?_
                    refine z_icmp_ge (tgt := 174) ho dX13_put_145 (by decide) (by unfold rng; omega) (by unfold rng; omega) (fun c145 => ?_) (fun c145 => ?_)
                    · have p2 : ∀ x y x' y' : Int, iv_ (wI_ (wI_ w2 (m + 5) x y) (m + 6) x' y') (m + 2) = iv_ u (m + 2) := fun x y x' y' => by rw [ivf (by omega), ivf (by omega), oth _ (by omega), y2]
                      have p3 : ∀ x y x' y' x2 y2 : Int, iv_ (wI_ (wI_ (wI_ w2 (m + 5) x y) (m + 6) x' y') (m + 2) x2 y2) (m + 3) = iv_ u (m + 3) := fun x y x' y' x2 y2 => by rw [ivf (by omega), ivf (by omega), ivf (by omega), oth _ (by omega), y3]
                      have g1' : iv_ u (m + 2) (vs.1 : Int) = (M vs.1).length := by rw [← y2]; exact e1
                      refine z_aload_n ho dX13_put_174 rfl ?_
                      refine gX13_22 ho dX13_put_175 hm2.1 (mget hm2.r6 ?_)
                      refine z_iload ho dX13_put_178 rfl ?_
                      refine z_iload_n ho dX13_put_180 rfl ?_
                      refine z_iast ho dX13_put_181 hm2.k5 (by omega) (hm2.t5 (by omega)) ?_
                      refine z_aload_n ho dX13_put_182 rfl ?_
                      refine gX13_25 ho dX13_put_183 hm2.1 (mget hm2.r7 ?_)
                      refine z_iload ho dX13_put_186 rfl ?_
                      refine z_iload_n ho dX13_put_188 rfl ?_
                      refine z_iast ho dX13_put_189 hm2.k6 (by omega) (hm2.t6 (by omega)) ?_
                      refine z_aload_n ho dX13_put_190 rfl ?_
                      refine gX13_13 ho dX13_put_191 hm2.1 (mget hm2.r3 ?_)
                      refine z_iload ho dX13_put_194 rfl ?_
                      refine z_dup2 ho dX13_put_196 rfl rfl ?_
                      refine z_iald ho dX13_put_197 hm2.k2 (by omega) (hm2.t2 (by omega)) ?_
                      refine z_iconst ho dX13_put_198 ?_
                      refine z_iadd ho dX13_put_199 ?_
                      refine z_iast ho dX13_put_200 hm2.k2 (by omega) (hm2.t2 (by omega)) ?_
                      refine z_aload_n ho dX13_put_201 rfl ?_
                      refine gX13_16 ho dX13_put_202 hm2.1 (mget hm2.r4 ?_)
                      refine z_iload ho dX13_put_205 rfl ?_
                      refine z_dup2 ho dX13_put_207 rfl rfl ?_
                      refine z_iald ho dX13_put_208 hm2.k3 (by omega) (hm2.t3 (by omega)) ?_
                      refine z_iconst ho dX13_put_209 ?_
                      refine z_iadd ho dX13_put_210 ?_
                      refine z_iast ho dX13_put_211 hm2.k3 (by omega) (hm2.t3 (by omega)) ?_
                      refine z_iconst ho dX13_put_212 ?_
                      refine r_I ho dX13_put_213 (Nat.le_of_ble_eq_true rfl) (Nat.le_of_ble_eq_true rfl) ?_
                      rw [p3, g3, p2, g1']
                      generalize hv : wI_ (wI_ (wI_ (wI_ w2 (m + 5) (64 * (vs.1 : Int) + (M vs.1).length) (tp.length : Int)) (m + 6) (64 * (vs.1 : Int) + (M vs.1).length) w) (m + 2) (vs.1 : Int) (((M vs.1).length : Int) + 1)) (m + 3) (vs.1 : Int) (ch vs.1 + 1) = v
                      have hC : Cg m u v [0, 2] [2, 3, 4, 5, 6] := by
                        rw [← hv]
                        exact (((c2.a 5 _ _ (by decide) (by decide) (by decide)).a 6 _ _ (by decide) (by decide) (by decide)).a 2 _ _ (by decide) (by decide) (by decide)).a 3 _ _ (by decide) (by decide) (by decide)
                      have f0 : iv_ v m 0 = 0 := by rw [← hv, ivf (by omega), ivf (by omega), ivf (by omega), ivf (by omega), oth _ (by omega)]; exact z0
                      have f2 : iv_ v m 2 = 0 := by rw [← hv, ivf (by omega), ivf (by omega), ivf (by omega), ivf (by omega), oth _ (by omega)]; exact z2'
                      have hMM : MM v m (fun q => if q = vs.1 then M vs.1 ++ [(tp, w)] else M q) (fun q => if q = vs.1 then ch vs.1 + 1 else ch q) := by
                        refine a4.add v3 (by omega) htx rw_ z2 (fun j hj => ?_) ?_ (fun j => ?_) (fun j => ?_) (fun j => ?_) (fun j => ?_)
                        · rw [← hv, ivf (by omega), ivf (by omega), ivf (by omega), ivf (by omega)]; exact o4 j hj
                        · rw [← hv, ivf (by omega), ivf (by omega), ivf (by omega), ivf (by omega), ← hnl]; exact t4
                        · rw [← hv, ivf (by omega), ivf (by omega), ivf (by omega), iv_wI, oth _ (by omega), y5]
                          by_cases z : j = 64 * (vs.1 : Int) + (M vs.1).length
                          · rw [if_pos ⟨rfl, z⟩, if_pos z]
                          · rw [if_neg (fun y => z y.2), if_neg z]
                        · rw [← hv, ivf (by omega), ivf (by omega), iv_wI, ivf (by omega), oth _ (by omega), y6]
                          by_cases z : j = 64 * (vs.1 : Int) + (M vs.1).length
                          · rw [if_pos ⟨rfl, z⟩, if_pos z]
                          · rw [if_neg (fun y => z y.2), if_neg z]
                        · rw [← hv, ivf (by omega), iv_wI, p2]
                          by_cases z : j = (vs.1 : Int)
                          · rw [if_pos ⟨rfl, z⟩, if_pos z]
                          · rw [if_neg (fun y => z y.2), if_neg z]
                        · rw [← hv, iv_wI, p3]
                          by_cases z : j = (vs.1 : Int)
                          · rw [if_pos ⟨rfl, z⟩, if_pos z]
                          · rw [if_neg (fun y => z y.2), if_neg z]
                      exact Or.inr ⟨vs, hin.1, hvs, Or.inr ⟨c25, hR, Or.inr ⟨z2, rfl, hC.1, f0, hm.im hC.1, MTp.nil f2, a3.cg hC (by decide) (by decide), hMM, a5.cg hC (by decide) (by decide), a6.cg hC (by decide), a7.cg hC (by decide) (by decide), a8.cg hC (by decide) (by decide), rg_upd a9 (hc vs.1 v3) v3⟩⟩⟩
                    · omega
                  | succ d ih =>
                    intro n hn
                    have nx := ih (n + 1) (by omega)
                    obtain ⟨s1, s2⟩ := cpA_s (u := w1) (a := m + 4) (b := m + 1) (d := 8 * (64 * (vs.1 : Int) + (M vs.1).length)) (s := 0) (by omega) n
                    rw [Int.zero_add] at s1 s2
                    have hm2 : MF (cpA w1 (m + 4) (m + 1) (8 * (64 * (vs.1 : Int) + (M vs.1).length)) 0 n) m := hm1
                    refine z_iload ho dX13_put_142 rfl ?_
                    refine z_iload_n ho dX13_put_144 rfl ?_
                    refine z_icmp_ge (tgt := 174) ho dX13_put_145 (by decide) (by unfold rng; omega) (by unfold rng; omega) (fun c145 => ?_) (fun c145 => ?_)
                    · omega
                    · 
                      refine z_aload_n ho dX13_put_148 rfl ?_
                      refine gX13_19 ho dX13_put_149 hm2.1 (mget hm2.r5 ?_)
                      refine z_bipush ho dX13_put_152 rfl ?_
                      refine z_iload ho dX13_put_154 rfl ?_
                      refine z_imul ho dX13_put_156 ?_
                      refine z_iload ho dX13_put_157 rfl ?_
                      refine z_iadd ho dX13_put_159 ?_
                      refine z_aload_n ho dX13_put_160 rfl ?_
                      refine gX13_7 ho dX13_put_161 hm2.1 (mget hm2.r1 ?_)
                      refine z_iload ho dX13_put_164 rfl ?_
                      refine z_iald ho dX13_put_166 hm2.k1 (by omega) (hm2.t1 (by omega)) ?_
                      refine z_iast ho dX13_put_167 hm2.k4 (by omega) (hm2.t4 (by omega)) ?_
                      refine z_iinc ho dX13_put_168 rfl rfl ?_
                      refine z_goto (tgt := 142) ho dX13_put_171 (by decide) ?_
                      rw [s1, s2]
                      exact nx
                have k0 := key tp.length 0 rfl
                rw [show ((0 : Nat) : Int) = 0 from rfl, cpA_0] at k0
                refine z_iadd ho dX13_put_136 ?_
                refine z_istore ho dX13_put_137 (Nat.le_of_ble_eq_true rfl) rfl ?_
                refine z_iconst ho dX13_put_139 ?_
                refine z_istore ho dX13_put_140 (Nat.le_of_ble_eq_true rfl) rfl ?_
                exact k0
              · exact absurd rfl c101
            · omega
        · obtain ⟨q1, q2, q3, q4, q5, q6⟩ := hK.key hm v3 z1
          subst z3
          refine z_istore ho dX13_put_67 (Nat.le_of_ble_eq_true rfl) rfl ?_
          refine z_iload ho dX13_put_69 rfl ?_
          refine z_iconst ho dX13_put_71 ?_
          refine z_icmp_ne (tgt := 93) ho dX13_put_72 (by decide) (by unfold rng; omega) (by unfold rng; omega) (fun c72 => ?_) (fun c72 => ?_)
          · 
            refine z_aload_n ho dX13_put_93 rfl ?_
            refine z_iconst ho dX13_put_94 ?_
            refine pX13_99 ho dX13_put_95 hm.1  ?_
            refine z_iload ho dX13_put_98 rfl ?_
            refine z_iconst ho dX13_put_100 ?_
            refine z_icmp_eq (tgt := 124) ho dX13_put_101 (by decide) (by unfold rng; omega) (by unfold rng; omega) (fun c101 => ?_) (fun c101 => ?_)
            · omega
            · have q3' : iv_ (wI_ (wI_ u m 2 0) m 0 0) (m + 6) (64 * (vs.1 : Int) + (k : Int)) = p.2 := by rw [ivf (by omega)]; exact q3
              refine z_aload_n ho dX13_put_104 rfl ?_
              refine gX13_25 ho dX13_put_105 hm.1 (mget hm.r7 ?_)
              refine z_iload ho dX13_put_108 rfl ?_
              refine z_iald ho dX13_put_110 hm.k6 (by omega) (hm.t6 (by omega)) ?_
              refine z_istore ho dX13_put_111 (Nat.le_of_ble_eq_true rfl) rfl ?_
              refine z_aload_n ho dX13_put_113 rfl ?_
              refine gX13_25 ho dX13_put_114 hm.1 (mget hm.r7 ?_)
              refine z_iload ho dX13_put_117 rfl ?_
              refine z_iload_n ho dX13_put_119 rfl ?_
              refine z_iast ho dX13_put_120 hm.k6 (by omega) (hm.t6 (by omega)) ?_
              refine z_iload ho dX13_put_121 rfl ?_
              refine r_I ho dX13_put_123 (Nat.le_of_ble_eq_true rfl) (Nat.le_of_ble_eq_true rfl) ?_
              rw [q3']
              generalize hv : wI_ (wI_ (wI_ u m 2 0) m 0 0) (m + 6) (64 * (vs.1 : Int) + (k : Int)) w = v
              have hC : Cg m u v [0, 2] [2, 3, 4, 5, 6] := by rw [← hv]; exact (c0.f 0 0 (by decide)).a 6 _ _ (by decide) (by decide) (by decide)
              have f0 : iv_ v m 0 = 0 := by rw [← hv, ivf (by omega), iv_wI, if_pos ⟨rfl, rfl⟩]
              have f2 : iv_ v m 2 = 0 := by rw [← hv, ivf (by omega), iv_wI, if_neg (by omega), iv_wI, if_pos ⟨rfl, rfl⟩]
              have hMM := a4.val (v := v) (w := w) v3 z1 rw_ (by rw [← hv, ivf (by omega), ivf (by omega), ivf (by omega)]) (by rw [← hv, ivf (by omega), ivf (by omega), ivf (by omega)]) (fun j => by
                rw [← hv, iv_wI, ivf (by omega), ivf (by omega)]
                by_cases z : j = 64 * (vs.1 : Int) + k
                · rw [if_pos ⟨rfl, z⟩, if_pos z]
                · rw [if_neg (fun y => z y.2), if_neg z]) (by rw [← hv, ivf (by omega), ivf (by omega), ivf (by omega)]) (by rw [← hv, ivf (by omega), ivf (by omega), ivf (by omega)])
              rw [z2] at hMM
              refine Or.inr ⟨vs, hin.1, hvs, Or.inr ⟨c25, hR, Or.inl ⟨_, _, ?_, hC.1, f0, hm.im hC.1, MTp.nil f2, a3.cg hC (by decide) (by decide), hMM, a5.cg hC (by decide) (by decide), a6.cg hC (by decide), a7.cg hC (by decide) (by decide), a8.cg hC (by decide) (by decide), a9⟩⟩⟩
              have := take_drop_cons z1
              rw [show p = (tp, p.2) by rw [← z2]] at this
              exact this
          · omega
      · exact bad (Or.inr (hs'.resolve_left (fun z => by omega)).2)
  · 
    refine z_aload_n ho dX13_put_8 rfl ?_
    refine z_iconst ho dX13_put_9 ?_
    refine kX13_126 ho hN (c_raise _ _ hm) dX13_put_10 hm.1 (Nat.le_of_ble_eq_true rfl) (Nat.le_of_ble_eq_true rfl) (Nat.le_of_ble_eq_true rfl) (Nat.le_of_ble_eq_true rfl) (fun x10 u10 h10 => ?_)
    obtain ⟨rfl, rfl⟩ := h10
    refine r_I ho dX13_put_13 (Nat.le_of_ble_eq_true rfl) (Nat.le_of_ble_eq_true rfl) ?_
    refine Or.inl ⟨fun z => ?_, qM_raise h⟩
    rcases hs with ⟨y, -⟩ | ⟨-, y⟩
    · omega
    · exact y z
