set_option maxRecDepth 100000
/-! ===== KeyHallModel: clear, remove, put, view, size ===== -/
theorem swp_get {α : Type} (L : List α) {k : Nat} (hk : k < L.length) (j : Nat) : (swp (L.take k) (L.drop (k + 1)))[j]? = if j + 1 < L.length then (if j = k then L[L.length - 1]? else L[j]?) else none := by
  have hp := (swp_perm (L.take k) (L.drop (k + 1))).length_eq
  rw [List.length_append, List.length_take, List.length_drop] at hp
  by_cases hj : j + 1 < L.length
  · rw [if_pos hj]
    unfold swp
    rw [List.getLast?_drop]
    by_cases hkl : k + 1 < L.length
    · rw [if_neg (by omega)]
      have hne : L ≠ [] := fun z => by rw [z] at hk; simp at hk
      rw [List.getLast?_eq_some_getLast hne]
      simp only
      have hl : (L.take k).length = k := by rw [List.length_take]; omega
      by_cases h1 : j < k
      · rw [if_neg (by omega), List.getElem?_append_left (by omega), List.getElem?_take, if_pos h1]
      · by_cases h2 : j = k
        · rw [if_pos h2, h2, List.getElem?_append_right (by omega), hl, Nat.sub_self, List.getElem?_cons_zero, List.getLast_eq_getElem, List.getElem?_eq_getElem (by omega)]
        · rw [if_neg h2, List.getElem?_append_right (by omega), hl, show j - k = (j - k - 1) + 1 by omega, List.getElem?_cons_succ, List.getElem?_dropLast, List.length_drop, if_pos (by omega), List.getElem?_drop]
          congr 1
          omega
    · rw [if_pos (by omega)]
      simp only
      rw [List.getElem?_take, if_pos (by omega), if_neg (by omega)]
  · rw [if_neg hj]
    exact List.getElem?_eq_none (by rw [hp]; omega)
theorem take_drop_cons {α : Type} {L : List α} {k : Nat} {p : α} (h : L[k]? = some p) : L = L.take k ++ p :: L.drop (k + 1) := by
  obtain ⟨h1, h2⟩ := List.getElem?_eq_some_iff.mp h
  rw [← h2, List.getElem_cons_drop, List.take_append_drop]
/-- the place of a key is one -/
theorem kv_split {L A B A' B' : List KV} {p p' : KV} (hnd : (L.map Prod.fst).Nodup) (h : L = A ++ p :: B) (h' : L = A' ++ p' :: B') (he : p.1 = p'.1) : A = A' ∧ B = B' ∧ p = p' := by
  have key : A.length = A'.length := by
    rw [h] at hnd
    have e1 : ((A ++ p :: B).map Prod.fst)[A.length]? = some p.1 := by simp
    have e2 : ((A ++ p :: B).map Prod.fst)[A'.length]? = some p.1 := by rw [← h, h', he]; simp
    have l1 : A.length < ((A ++ p :: B).map Prod.fst).length := by simp
    have l2 : A'.length < ((A ++ p :: B).map Prod.fst).length := (List.getElem?_eq_some_iff.mp e2).1
    exact (List.getElem?_inj l1 hnd).mp (e1.trans e2.symm)
  rw [h] at h'
  obtain ⟨h1, h2⟩ := List.append_inj h' key
  cases h2
  exact ⟨h1, rfl, rfl⟩
theorem kv_val {L A B : List KV} {t : List Int} {w w' : Int} (hnd : (L.map Prod.fst).Nodup) (h : L = A ++ (t, w) :: B) (hm : (t, w') ∈ L) : w' = w := by
  obtain ⟨A', B', h'⟩ := List.append_of_mem hm
  have := (kv_split hnd h h' rfl).2.2
  cases this
  rfl
theorem rg_upd {ch : Nat → Int} {i : Nat} (h : ∀ i, i < 3 → rng (ch i)) (hc : ch i < 1000000) (hi : i < 3) : ∀ y, y < 3 → rng ((fun k => if k = i then ch i + 1 else ch k) y) := fun y hy => by
  show rng (if y = i then ch i + 1 else ch y)
  by_cases z : y = i
  · rw [if_pos z]
    have := h i hi
    unfold rng at this ⊢
    omega
  · rw [if_neg z]; exact h y hy
/-- a key is cleared -/
theorem MM.clear {u v : Mem} {m i k : Nat} {M : Nat → List KV} {ch : Nat → Int} (h : MM u m M ch) (hi : i < 3) (hk : k < (M i).length) (e4 : ∀ j : Int, iv_ v (m + 4) j = if 8 * (64 * (i : Int) + k) ≤ j ∧ j < 8 * (64 * (i : Int) + k) + 8 then iv_ u (m + 4) (8 * (64 * (i : Int) + (M i).length - 1) + (j - 8 * (64 * (i : Int) + k))) else iv_ u (m + 4) j) (e5 : ∀ j : Int, iv_ v (m + 5) j = if j = 64 * (i : Int) + k then iv_ u (m + 5) (64 * (i : Int) + (M i).length - 1) else iv_ u (m + 5) j) (e6 : ∀ j : Int, iv_ v (m + 6) j = if j = 64 * (i : Int) + k then iv_ u (m + 6) (64 * (i : Int) + (M i).length - 1) else iv_ u (m + 6) j) (e2 : ∀ j : Int, iv_ v (m + 2) j = if j = (i : Int) then ((M i).length : Int) - 1 else iv_ u (m + 2) j) (e3 : ∀ j : Int, iv_ v (m + 3) j = if j = (i : Int) then ch i + 1 else iv_ u (m + 3) j) :
    MM v m (fun q => if q = i then swp ((M i).take k) ((M i).drop (k + 1)) else M q) (fun q => if q = i then ch i + 1 else ch q) := by
  have hp := swp_perm ((M i).take k) ((M i).drop (k + 1))
  have hl : (swp ((M i).take k) ((M i).drop (k + 1))).length = (M i).length - 1 := by rw [hp.length_eq, List.length_append, List.length_take, List.length_drop]; omega
  intro q hq
  obtain ⟨h1, h2, h3, h4, h5⟩ := h q hq
  simp only
  by_cases z : q = i
  · subst z
    rw [if_pos rfl, if_pos rfl, hl]
    refine ⟨by rw [e2, if_pos rfl]; omega, by rw [e3, if_pos rfl], by omega, ?_, fun j p hj => ?_⟩
    · refine (hp.map Prod.fst).nodup_iff.mpr ?_
      refine List.Nodup.sublist (List.Sublist.map _ ?_) h4
      conv => rhs; rw [← List.take_append_drop k (M q)]
      refine List.Sublist.append_left ?_ _
      rw [← List.drop_drop]
      exact List.drop_sublist 1 _
    · rw [swp_get _ hk] at hj
      by_cases hj1 : j + 1 < (M q).length
      · rw [if_pos hj1] at hj
        by_cases hjk : j = k
        · rw [if_pos hjk] at hj
          obtain ⟨r1, r2, r3, r4, r5⟩ := h5 _ p hj
          rw [show (64 * (q : Int) + ((M q).length - 1 : Nat)) = 64 * (q : Int) + (M q).length - 1 by omega] at r1 r2 r3
          subst hjk
          refine ⟨by rw [e5, if_pos rfl]; exact r1, ?_, by rw [e6, if_pos rfl]; exact r3, r4, r5⟩
          conv => rhs; rw [← r2]
          refine sub_ext (fun y y0 y1 => ?_)
          have := r4.1
          rw [e4, if_pos (by omega)]
          congr 1
          omega
        · rw [if_neg hjk] at hj
          obtain ⟨r1, r2, r3, r4, r5⟩ := h5 j p hj
          have := r4.1
          refine ⟨by rw [e5, if_neg (by omega)]; exact r1, ?_, by rw [e6, if_neg (by omega)]; exact r3, r4, r5⟩
          conv => rhs; rw [← r2]
          refine sub_ext (fun y y0 y1 => ?_)
          rw [e4, if_neg (by omega)]
      · rw [if_neg hj1] at hj
        cases hj
  · rw [if_neg z, if_neg z]
    refine ⟨by rw [e2, if_neg (by omega)]; exact h1, by rw [e3, if_neg (by omega)]; exact h2, h3, h4, fun j p hj => ?_⟩
    obtain ⟨r1, r2, r3, r4, r5⟩ := h5 j p hj
    have hjl := (List.getElem?_eq_some_iff.mp hj).1
    have l0 := r4.1
    have h3' := (h i hi).2.2.1
    have : (64 * (q : Int) + j) ≠ 64 * (i : Int) + k := by
      rcases Nat.lt_or_gt_of_ne z with y | y <;> omega
    refine ⟨by rw [e5, if_neg this]; exact r1, ?_, by rw [e6, if_neg this]; exact r3, r4, r5⟩
    conv => rhs; rw [← r2]
    refine sub_ext (fun y y0 y1 => ?_)
    rw [e4, if_neg (by omega)]
/-- the first n of eight are copied -/
def cp8 (u : Mem) (a : Nat) (d s n : Int) : Mem := (u.1, u.2.1, u.2.2.1, (fun b j => if b = a ∧ d ≤ j ∧ j < d + n then u.2.2.2.1 a (s + (j - d)) else u.2.2.2.1 b j), u.2.2.2.2)
theorem c_clear (l : Launch) (u : Mem) {m N i k : Nat} {tp fd : List Int} {M : Nat → List KV} {ch : Nat → Int} {VL : List VS} {Ks : List (List Int)} {T : List Int} {Os : List (List Int)} (h : MS u m N tp fd M ch VL Ks T Os) (hi : i < 3) (hk : k < (M i).length) : Mt_ l yX13_clear cX13_clear 5 none 0 0 0 [aR m, aI (i : Int), aI (64 * (i : Int) + (k : Int))] u (qV fun v => Cg m u v [] [2, 3, 4, 5, 6] ∧ MM v m (fun q => if q = i then swp ((M i).take k) ((M i).drop (k + 1)) else M q) (fun q => if q = i then ch i + 1 else ch q)) := by
  have hm := h.1
  have hK := h.2.2.2.1
  obtain ⟨h1, h2, h3, -⟩ := hK i hi
  refine Mt_of (by decide) (Nat.le_of_ble_eq_true rfl) (fun X ho hX hN hI => ?_)
  subst hX
  show Z X 0 [some (aR m), some (aI  (i : Int)), some (aI  (64 * (i : Int) + (k : Int))), none, none] [] u 0 0
  have ec : ∀ n : Nat, cp8 u (m + 4) (8 * (64 * (i : Int) + k)) (8 * (64 * (i : Int) + (M i).length - 1)) n = cp8 u (m + 4) (8 * (64 * (i : Int) + k)) (8 * (64 * (i : Int) + (M i).length - 1)) n := fun _ => rfl
  -- key and the last one are the same or eight apart
  have hsep : (k : Int) = (M i).length - 1 ∨ (k : Int) + 1 ≤ (M i).length - 1 := by omega
  have key : ∀ (d n : Nat), d + n = 8 → Z X 17 [some (aR m), some (aI (i : Int)), some (aI (64 * (i : Int) + (k : Int))), some (aI (64 * (i : Int) + (M i).length - 1)), some (aI (n : Int))] [] (cp8 u (m + 4) (8 * (64 * (i : Int) + k)) (8 * (64 * (i : Int) + (M i).length - 1)) n) 0 0 := by
    intro d
    induction d with
    | zero =>
      intro n hn
      have hn8 : (n : Int) = 8 := by omega
      rw [hn8]
      generalize hw : cp8 u (m + 4) (8 * (64 * (i : Int) + k)) (8 * (64 * (i : Int) + (M i).length - 1)) 8 = w
      have hI : Im m u w := by
        rw [← hw]
        refine ⟨rfl, fun _ => ⟨rfl, rfl⟩, fun _ _ => rfl, fun a ha j => ?_⟩
        show (if a = m + 4 ∧ _ then _ else _) = _
        rw [if_neg (by omega)]; rfl
      have w4 : ∀ j : Int, iv_ w (m + 4) j = if 8 * (64 * (i : Int) + k) ≤ j ∧ j < 8 * (64 * (i : Int) + k) + 8 then iv_ u (m + 4) (8 * (64 * (i : Int) + (M i).length - 1) + (j - 8 * (64 * (i : Int) + k))) else iv_ u (m + 4) j := fun j => by
        rw [← hw]
        show (if m + 4 = m + 4 ∧ _ then _ else _) = _
        simp only [true_and]
        rfl
      have wo : ∀ b : Nat, b ≠ m + 4 → iv_ w b = iv_ u b := fun b hb => funext fun j => by
        rw [← hw]
        show (if b = m + 4 ∧ _ then _ else _) = _
        rw [if_neg (fun z => hb z.1)]; rfl
      have hm := hm.im hI
      have g2 : iv_ w (m + 2) (i : Int) = (M i).length := by rw [wo _ (by omega)]; exact h1
      have g3 : iv_ w (m + 3) (i : Int) = ch i := by rw [wo _ (by omega)]; exact h2
      clear hw
      refine z_iload ho dX13_clear_17 rfl ?_
      refine z_bipush ho dX13_clear_19 rfl ?_
      refine z_icmp_ge (tgt := 54) ho dX13_clear_21 (by decide) (by unfold rng; omega) (by unfold rng; omega) (fun c21 => ?_) (fun c21 => ?_)
      · 
        refine z_aload_n ho dX13_clear_54 rfl ?_
        refine gX13_22 ho dX13_clear_55 hm.1 (mget hm.r6 ?_)
        refine z_iload_n ho dX13_clear_58 rfl ?_
        refine z_aload_n ho dX13_clear_59 rfl ?_
        refine gX13_22 ho dX13_clear_60 hm.1 (mget hm.r6 ?_)
        refine z_iload_n ho dX13_clear_63 rfl ?_
        refine z_iald ho dX13_clear_64 hm.k5 (by omega) (hm.t5 (by omega)) ?_
        refine z_iast ho dX13_clear_65 hm.k5 (by omega) (hm.t5 (by omega)) ?_
        refine z_aload_n ho dX13_clear_66 rfl ?_
        refine gX13_25 ho dX13_clear_67 hm.1 (mget hm.r7 ?_)
        refine z_iload_n ho dX13_clear_70 rfl ?_
        refine z_aload_n ho dX13_clear_71 rfl ?_
        refine gX13_25 ho dX13_clear_72 hm.1 (mget hm.r7 ?_)
        refine z_iload_n ho dX13_clear_75 rfl ?_
        refine z_iald ho dX13_clear_76 hm.k6 (by omega) (hm.t6 (by omega)) ?_
        refine z_iast ho dX13_clear_77 hm.k6 (by omega) (hm.t6 (by omega)) ?_
        refine z_aload_n ho dX13_clear_78 rfl ?_
        refine gX13_13 ho dX13_clear_79 hm.1 (mget hm.r3 ?_)
        refine z_iload_n ho dX13_clear_82 rfl ?_
        refine z_dup2 ho dX13_clear_83 rfl rfl ?_
        refine z_iald ho dX13_clear_84 hm.k2 (by omega) (hm.t2 (by omega)) ?_
        refine z_iconst ho dX13_clear_85 ?_
        refine z_isub ho dX13_clear_86 ?_
        refine z_iast ho dX13_clear_87 hm.k2 (by omega) (hm.t2 (by omega)) ?_
        refine z_aload_n ho dX13_clear_88 rfl ?_
        refine gX13_16 ho dX13_clear_89 hm.1 (mget hm.r4 ?_)
        refine z_iload_n ho dX13_clear_92 rfl ?_
        refine z_dup2 ho dX13_clear_93 rfl rfl ?_
        refine z_iald ho dX13_clear_94 hm.k3 (by omega) (hm.t3 (by omega)) ?_
        refine z_iconst ho dX13_clear_95 ?_
        refine z_iadd ho dX13_clear_96 ?_
        refine z_iast ho dX13_clear_97 hm.k3 (by omega) (hm.t3 (by omega)) ?_
        refine r_V ho dX13_clear_98 (Nat.le_of_ble_eq_true rfl) (Nat.le_of_ble_eq_true rfl) ?_
        have q1 : ∀ x y : Int, iv_ (wI_ w (m + 5) x y) (m + 6) = iv_ w (m + 6) := fun x y => ivf (by omega)
        have q2 : ∀ x y x' y' : Int, iv_ (wI_ (wI_ w (m + 5) x y) (m + 6) x' y') (m + 2) = iv_ w (m + 2) := fun x y x' y' => by rw [ivf (by omega), ivf (by omega)]
        have q3 : ∀ x y x' y' x2 y2 : Int, iv_ (wI_ (wI_ (wI_ w (m + 5) x y) (m + 6) x' y') (m + 2) x2 y2) (m + 3) = iv_ w (m + 3) := fun x y x' y' x2 y2 => by rw [ivf (by omega), ivf (by omega), ivf (by omega)]
        rw [q3, g3, q2, g2, q1]
        generalize hv : wI_ (wI_ (wI_ (wI_ w (m + 5) (64 * (i : Int) + k) (iv_ w (m + 5) (64 * (i : Int) + (M i).length - 1))) (m + 6) (64 * (i : Int) + k) (iv_ w (m + 6) (64 * (i : Int) + (M i).length - 1))) (m + 2) (i : Int) (((M i).length : Int) - 1)) (m + 3) (i : Int) (ch i + 1) = v
        have hC : Cg m u v [] [2, 3, 4, 5, 6] := by
          have c0 : Cg m u w [] [2, 3, 4, 5, 6] := ⟨hI, fun j _ => by rw [wo _ (by omega)], fun j j1 j2 => wo _ (fun z => j2 (by rw [show j = 4 by omega]; decide))⟩
          rw [← hv]
          exact (((c0.a 5 _ _ (by decide) (by decide) (by decide)).a 6 _ _ (by decide) (by decide) (by decide)).a 2 _ _ (by decide) (by decide) (by decide)).a 3 _ _ (by decide) (by decide) (by decide)
        refine ⟨hC, hK.clear hi hk (fun j => ?_) (fun j => ?_) (fun j => ?_) (fun j => ?_) (fun j => ?_)⟩
        · rw [← hv, iv_wI, if_neg (by omega), iv_wI, if_neg (by omega), iv_wI, if_neg (by omega), iv_wI, if_neg (by omega)]
          exact w4 j
        · rw [← hv, iv_wI, if_neg (by omega), iv_wI, if_neg (by omega), iv_wI, if_neg (by omega), iv_wI]
          rw [wo _ (by omega)]
          by_cases z : j = 64 * (i : Int) + k
          · rw [if_pos ⟨rfl, z⟩, if_pos z]
          · rw [if_neg (fun y => z y.2), if_neg z]
        · rw [← hv, iv_wI, if_neg (by omega), iv_wI, if_neg (by omega), iv_wI]
          by_cases z : j = 64 * (i : Int) + k
          · rw [if_pos ⟨rfl, z⟩, if_pos z, wo _ (by omega)]
          · rw [if_neg (fun y => z y.2), if_neg z, iv_wI, if_neg (by omega), wo _ (by omega)]
        · rw [← hv, iv_wI, if_neg (by omega), iv_wI]
          by_cases z : j = (i : Int)
          · rw [if_pos ⟨rfl, z⟩, if_pos z]
          · rw [if_neg (fun y => z y.2), if_neg z, iv_wI, if_neg (by omega), iv_wI, if_neg (by omega), wo _ (by omega)]
        · rw [← hv, iv_wI]
          by_cases z : j = (i : Int)
          · rw [if_pos ⟨rfl, z⟩, if_pos z]
          · rw [if_neg (fun y => z y.2), if_neg z, iv_wI, if_neg (by omega), iv_wI, if_neg (by omega), iv_wI, if_neg (by omega), wo _ (by omega)]
      · omega
    | succ d ih =>
      intro n hn
      have nx := ih (n + 1) (by omega)
      have e4 : iv_ (cp8 u (m + 4) (8 * (64 * (i : Int) + k)) (8 * (64 * (i : Int) + (M i).length - 1)) n) (m + 4) (8 * (64 * (i : Int) + (M i).length - 1) + n) = iv_ u (m + 4) (8 * (64 * (i : Int) + (M i).length - 1) + n) := by
        show (if m + 4 = m + 4 ∧ _ then _ else _) = _
        rw [if_neg (by omega)]; rfl
      have ew : wI_ (cp8 u (m + 4) (8 * (64 * (i : Int) + k)) (8 * (64 * (i : Int) + (M i).length - 1)) n) (m + 4) (8 * (64 * (i : Int) + k) + n) (iv_ u (m + 4) (8 * (64 * (i : Int) + (M i).length - 1) + n)) = cp8 u (m + 4) (8 * (64 * (i : Int) + k)) (8 * (64 * (i : Int) + (M i).length - 1)) (n + 1 : Nat) := by
        refine mem_ext rfl (fun _ => rfl) (fun _ => rfl) (fun b j => ?_) (fun _ _ => rfl)
        rw [iv_wI]
        show (if _ then _ else (if b = m + 4 ∧ _ then _ else _)) = (if b = m + 4 ∧ _ then _ else _)
        by_cases hb : b = m + 4
        · by_cases z : j = 8 * (64 * (i : Int) + k) + n
          · rw [if_pos ⟨hb, z⟩, if_pos ⟨hb, by omega, by omega⟩]
            show iv_ u (m + 4) _ = iv_ u (m + 4) _
            congr 1; omega
          · rw [if_neg (fun y => z y.2)]
            by_cases y : 8 * (64 * (i : Int) + k) ≤ j ∧ j < 8 * (64 * (i : Int) + k) + n
            · rw [if_pos ⟨hb, y⟩, if_pos ⟨hb, y.1, by omega⟩]
            · rw [if_neg (fun q => y q.2), if_neg (fun q => y ⟨q.2.1, by omega⟩)]
        · rw [if_neg (fun y => hb y.1), if_neg (fun y => hb y.1), if_neg (fun y => hb y.1)]
      refine z_iload ho dX13_clear_17 rfl ?_
      refine z_bipush ho dX13_clear_19 rfl ?_
      refine z_icmp_ge (tgt := 54) ho dX13_clear_21 (by decide) (by unfold rng; omega) (by unfold rng; omega) (fun c21 => ?_) (fun c21 => ?_)
      · omega
      · 
        refine z_aload_n ho dX13_clear_24 rfl ?_
        refine gX13_19 ho dX13_clear_25 hm.1 (mget hm.r5 ?_)
        refine z_bipush ho dX13_clear_28 rfl ?_
        refine z_iload_n ho dX13_clear_30 rfl ?_
        refine z_imul ho dX13_clear_31 ?_
        refine z_iload ho dX13_clear_32 rfl ?_
        refine z_iadd ho dX13_clear_34 ?_
        refine z_aload_n ho dX13_clear_35 rfl ?_
        refine gX13_19 ho dX13_clear_36 hm.1 (mget hm.r5 ?_)
        refine z_bipush ho dX13_clear_39 rfl ?_
        refine z_iload_n ho dX13_clear_41 rfl ?_
        refine z_imul ho dX13_clear_42 ?_
        refine z_iload ho dX13_clear_43 rfl ?_
        refine z_iadd ho dX13_clear_45 ?_
        refine z_iald ho dX13_clear_46 hm.k4 (by omega) (hm.t4 (by omega)) ?_
        refine z_iast ho dX13_clear_47 hm.k4 (by omega) (hm.t4 (by omega)) ?_
        refine z_iinc ho dX13_clear_48 rfl rfl ?_
        refine z_goto (tgt := 17) ho dX13_clear_51 (by decide) ?_
        rw [e4, ew]
        exact nx
  have e8 : cp8 u (m + 4) (8 * (64 * (i : Int) + k)) (8 * (64 * (i : Int) + (M i).length - 1)) ((0 : Nat) : Int) = u := by
    refine mem_ext rfl (fun _ => rfl) (fun _ => rfl) (fun b j => ?_) (fun _ _ => rfl)
    show (if b = m + 4 ∧ _ then _ else _) = _
    rw [if_neg (by omega)]; rfl
  have k0 := key 8 0 rfl
  rw [e8] at k0
  refine z_bipush ho dX13_clear_0 rfl ?_
  refine z_iload_n ho dX13_clear_2 rfl ?_
  refine z_imul ho dX13_clear_3 ?_
  refine z_aload_n ho dX13_clear_4 rfl ?_
  refine gX13_13 ho dX13_clear_5 hm.1 (mget hm.r3 ?_)
  refine z_iload_n ho dX13_clear_8 rfl ?_
  refine z_iald ho dX13_clear_9 hm.k2 (by omega) (hm.t2 (by omega)) ?_
  rw [h1]
  refine z_iadd ho dX13_clear_10 ?_
  refine z_iconst ho dX13_clear_11 ?_
  refine z_isub ho dX13_clear_12 ?_
  refine z_istore_n ho dX13_clear_13 (Nat.le_of_ble_eq_true rfl) rfl ?_
  refine z_iconst ho dX13_clear_14 ?_
  refine z_istore ho dX13_clear_15 (Nat.le_of_ble_eq_true rfl) rfl ?_
  exact k0
theorem c_mremove (l : Launch) (u : Mem) {m N : Nat} {i : Int} {tp fd : List Int} {M : Nat → List KV} {ch : Nat → Int} {VL : List VS} {Ks : List (List Int)} {T : List Int} {Os : List (List Int)} (h : MS u m N tp fd M ch VL Ks T Os) (ri : rng i) (hc : ∀ k, k < 3 → ch k < 1000000) :
    Mt_ l yX13_remove cX13_remove 4 (some .int) 4 0 0 [aR m, aI i] u (qI fun r v => (¬ (0 ≤ i ∧ i < VL.length) ∧ qM m N u 1 tp fd M ch VL Ks T Os v) ∨ (∃ vs, 0 ≤ i ∧ VL[i.toNat]? = some vs ∧ (((¬ vs.2.1 tp ∨ ∀ p ∈ M vs.1, p.1 ≠ tp) ∧ r = -1 ∧ qM m N u 0 [] fd M ch VL Ks T Os v) ∨ (vs.2.1 tp ∧ ∃ A B, M vs.1 = A ++ (tp, r) :: B ∧ qM m N u 0 [] fd (fun k => if k = vs.1 then swp A B else M k) (fun k => if k = vs.1 then ch vs.1 + 1 else ch k) VL Ks T Os v)))) := by
  have hm := h.1
  refine Mt_of (by decide) (Nat.le_of_ble_eq_true rfl) (fun X ho hX hN hI => ?_)
  subst hX
  show Z X 0 [some (aR m), some (aI i), none, none] [] u 0 0
  refine z_aload_n ho dX13_remove_0 rfl ?_
  refine z_iload_n ho dX13_remove_1 rfl ?_
  refine kX13_122 ho hN (c_isView _ _ hm h.2.2.2.2.1.1 h.2.2.2.2.1.2.1 ri) dX13_remove_2 hm.1 (Nat.le_of_ble_eq_true rfl) (Nat.le_of_ble_eq_true rfl) (Nat.le_of_ble_eq_true rfl) (Nat.le_of_ble_eq_true rfl) (fun x2 u2 h2 => ?_)
  obtain ⟨rfl, hs⟩ := h2
  refine z_if_ne (tgt := 14) ho dX13_remove_5 (by decide) (by rcases hs with ⟨z, -⟩ | ⟨z, -⟩ <;> rw [z] <;> unfold rng <;> omega) (fun c5 => ?_) (fun c5 => ?_)
  · have hin := (hs.resolve_right (fun z => c5 z.1)).2
    have hvs : VL[i.toNat]? = some VL[i.toNat] := List.getElem?_eq_getElem (by omega)
    generalize VL[i.toNat] = vs at hvs
    have ei : (i.toNat : Int) = i := Int.toNat_of_nonneg hin.1
    have v3 := (h.2.2.2.2.1.2.2 _ vs hvs).1
    have H0 := h.cgc (v := wI_ u m 0 0) ((Cg.rf m u _ _).f 0 0 (by decide))
    have hu := c_used (La_ X) (wI_ u m 0 0) H0 hvs
    rw [ei] at hu
    refine z_aload_n ho dX13_remove_14 rfl ?_
    refine z_iconst ho dX13_remove_15 ?_
    refine pX13_99 ho dX13_remove_16 hm.1  ?_
    refine z_aload_n ho dX13_remove_19 rfl ?_
    refine z_iload_n ho dX13_remove_20 rfl ?_
    refine kX13_136 ho hN (hu) dX13_remove_21 hm.1 (Nat.le_of_ble_eq_true rfl) (Nat.le_of_ble_eq_true rfl) (Nat.le_of_ble_eq_true rfl) (Nat.le_of_ble_eq_true rfl) (fun x21 u21 h21 => ?_)
    obtain ⟨rfl, hr⟩ := h21
    have HQ : qM m N u 0 [] fd M ch VL Ks T Os (wI_ (wI_ u m 0 0) m 2 0) := ⟨((Im.rf m u).w0 0 0).w0 2 0, by rw [iv_wI, if_neg (by omega), iv_wI, if_pos ⟨rfl, rfl⟩], h.cgt (((Cg.rf m u _ _).f 0 0 (by decide)).f 2 0 (by decide)) (by rw [iv_wI, if_pos ⟨rfl, rfl⟩])⟩
    rcases hr with ⟨z1, z2⟩ | ⟨z1, k, p, z2, z3, z4⟩
    · subst z1
      refine z_istore_n ho dX13_remove_24 (Nat.le_of_ble_eq_true rfl) rfl ?_
      refine z_iload_n ho dX13_remove_25 rfl ?_
      refine z_iconst ho dX13_remove_26 ?_
      refine z_icmp_ne (tgt := 32) ho dX13_remove_27 (by decide) (by unfold rng; omega) (by unfold rng; omega) (fun c27 => ?_) (fun c27 => ?_)
      · exact absurd rfl c27
      · 
        refine z_iconst ho dX13_remove_30 ?_
        refine r_I ho dX13_remove_31 (Nat.le_of_ble_eq_true rfl) (Nat.le_of_ble_eq_true rfl) ?_
        exact Or.inr ⟨vs, hin.1, hvs, Or.inl ⟨z2, rfl, HQ⟩⟩
    · obtain ⟨q1, q2, q3, q4, q5, q6⟩ := HQ.2.2.2.2.2.1.key hm v3 z2
      have hkl := (List.getElem?_eq_some_iff.mp z2).1
      subst z4
      have hmo := c_mapOf (La_ X) (wI_ (wI_ u m 0 0) m 2 0) hm HQ.2.2.2.2.2.2.1 hvs
      rw [ei] at hmo
      refine z_istore_n ho dX13_remove_24 (Nat.le_of_ble_eq_true rfl) rfl ?_
      refine z_iload_n ho dX13_remove_25 rfl ?_
      refine z_iconst ho dX13_remove_26 ?_
      refine z_icmp_ne (tgt := 32) ho dX13_remove_27 (by decide) (by unfold rng; omega) (by unfold rng; omega) (fun c27 => ?_) (fun c27 => ?_)
      · 
        refine z_aload_n ho dX13_remove_32 rfl ?_
        refine gX13_25 ho dX13_remove_33 hm.1 (mget hm.r7 ?_)
        refine z_iload_n ho dX13_remove_36 rfl ?_
        refine z_iald ho dX13_remove_37 hm.k6 (by omega) (hm.t6 (by omega)) ?_
        refine z_istore_n ho dX13_remove_38 (Nat.le_of_ble_eq_true rfl) rfl ?_
        refine z_aload_n ho dX13_remove_39 rfl ?_
        refine z_aload_n ho dX13_remove_40 rfl ?_
        refine z_iload_n ho dX13_remove_41 rfl ?_
        refine kX13_114 ho hN (hmo) dX13_remove_42 hm.1 (Nat.le_of_ble_eq_true rfl) (Nat.le_of_ble_eq_true rfl) (Nat.le_of_ble_eq_true rfl) (Nat.le_of_ble_eq_true rfl) (fun x42 u42 h42 => ?_)
        obtain ⟨rfl, rfl⟩ := h42
        refine z_iload_n ho dX13_remove_45 rfl ?_
        refine kX13_139 ho hN (c_clear _ _ HQ.2.2 v3 hkl) dX13_remove_46 hm.1 (Nat.le_of_ble_eq_true rfl) (Nat.le_of_ble_eq_true rfl) (Nat.le_of_ble_eq_true rfl) (Nat.le_of_ble_eq_true rfl) (fun u46 h46 => ?_)
        obtain ⟨g1, g2⟩ := h46
        refine z_iload_n ho dX13_remove_49 rfl ?_
        refine r_I ho dX13_remove_50 (Nat.le_of_ble_eq_true rfl) (Nat.le_of_ble_eq_true rfl) ?_
        rw [q3]
        obtain ⟨a1, a2, a3, a4, a5, a6, a7, a8, a9⟩ := HQ.2.2
        have hrc := a9 vs.1 v3
        refine Or.inr ⟨vs, hin.1, hvs, Or.inr ⟨z1, _, _, ?_, HQ.1.tr g1.1, by rw [g1.2.1 0 (by decide)]; exact HQ.2.1, a1.im g1.1, a2.cg g1 (by decide) (by decide), a3.cg g1 (by decide) (by decide), g2, a5.cg g1 (by decide) (by decide), a6.cg g1 (by decide), a7.cg g1 (by decide) (by decide), a8.cg g1 (by decide) (by decide), rg_upd a9 (hc vs.1 v3) v3⟩⟩
        have := take_drop_cons z2
        rw [show p = (tp, p.2) by rw [← z3]] at this
        exact this
      · omega
  · 
    refine z_aload_n ho dX13_remove_8 rfl ?_
    refine z_iconst ho dX13_remove_9 ?_
    refine kX13_126 ho hN (c_raise _ _ hm) dX13_remove_10 hm.1 (Nat.le_of_ble_eq_true rfl) (Nat.le_of_ble_eq_true rfl) (Nat.le_of_ble_eq_true rfl) (Nat.le_of_ble_eq_true rfl) (fun x10 u10 h10 => ?_)
    obtain ⟨rfl, rfl⟩ := h10
    refine r_I ho dX13_remove_13 (Nat.le_of_ble_eq_true rfl) (Nat.le_of_ble_eq_true rfl) ?_
    refine Or.inl ⟨fun z => ?_, qM_raise h⟩
    rcases hs with ⟨y, -⟩ | ⟨-, y⟩
    · omega
    · exact y z
