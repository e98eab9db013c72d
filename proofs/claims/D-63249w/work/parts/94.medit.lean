set_option maxRecDepth 100000
/-! ===== KeyHallModel: keep, insert, delete, undo ===== -/
/-- an array's numbers are f -/
def upA (u : Mem) (a : Nat) (f : Int → Int) : Mem := (u.1, u.2.1, u.2.2.1, (fun b j => if b = a then f j else u.2.2.2.1 b j), u.2.2.2.2)
theorem upA_iv (u : Mem) (a : Nat) (f : Int → Int) (b : Nat) (j : Int) : iv_ (upA u a f) b j = if b = a then f j else iv_ u b j := rfl
theorem upA_s (u : Mem) (a : Nat) (f : Int → Int) : iv_ (upA u a f) a = f := funext fun j => by rw [upA_iv, if_pos rfl]
theorem upA_o {u : Mem} {a : Nat} {f : Int → Int} {b : Nat} (h : b ≠ a) : iv_ (upA u a f) b = iv_ u b := funext fun j => by rw [upA_iv, if_neg h]
theorem upA_w (u : Mem) (a : Nat) (f : Int → Int) (i x : Int) : wI_ (upA u a f) a i x = upA u a (fun j => if j = i then x else f j) := by
  refine mem_ext rfl (fun _ => rfl) (fun _ => rfl) (fun b j => ?_) (fun _ _ => rfl)
  rw [iv_wI, upA_iv, upA_iv]
  by_cases hb : b = a
  · rw [if_pos hb, if_pos hb]
    by_cases hj : j = i
    · rw [if_pos ⟨hb, hj⟩, if_pos hj]
    · rw [if_neg (fun z => hj z.2), if_neg hj]
  · rw [if_neg (fun z => hb z.1), if_neg hb, if_neg hb]
theorem upA_r (u : Mem) (a : Nat) : upA u a (iv_ u a) = u := mem_ext rfl (fun _ => rfl) (fun _ => rfl) (fun b j => by rw [upA_iv]; split; (· rename_i h; rw [h]); rfl) (fun _ _ => rfl)
theorem upA_cg {m : Nat} {u v : Mem} {fs : List Int} {as : List Nat} (h : Cg m u v fs as) {j : Nat} {f : Int → Int} (hj : j ∈ as) (h1 : 1 ≤ j) (h29 : j < 29) : Cg m u (upA v (m + j) f) fs as := ⟨⟨h.1.1, h.1.2.1, h.1.2.2.1, fun a ha k => by rw [upA_iv, if_neg (by omega)]; exact h.1.2.2.2 a ha k⟩, fun k hk => by rw [upA_iv, if_neg (by omega)]; exact h.2.1 k hk, fun i q1 q2 => by
    rw [← h.2.2 i q1 q2]
    exact upA_o (fun z => q2 (by rw [show i = j by omega]; exact hj))⟩
theorem sub_add (f : Int → Int) (i : Int) (a b : Nat) : sub_ f i (a + b) = sub_ f i a ++ sub_ f (i + a) b := by
  have h := List.take_append_drop a (sub_ f i (a + b))
  rw [sub_take f i (by omega), sub_drop f i (by omega), show a + b - a = b by omega] at h
  exact h.symm
theorem psh_get {Os : List (List Int)} {T O : List Int} (h20 : Os.length ≤ 20) {j : Nat} (hj : (psh Os T)[j]? = some O) : (j + 1 = (psh Os T).length ∧ O = T) ∨ (j + 1 < (psh Os T).length ∧ Os[j + (Os.length + 1 - (psh Os T).length)]? = some O) := by
  have hl := (psh_len Os T h20).2
  have hjl := (List.getElem?_eq_some_iff.mp hj).1
  unfold psh at hj hjl hl ⊢
  by_cases z : Os.length = 20
  · rw [if_pos z] at hj hjl hl ⊢
    rw [List.length_append, List.length_drop] at hjl hl ⊢
    simp only [List.length_singleton] at hjl hl ⊢
    by_cases y : j < Os.length - 1
    · right
      rw [List.getElem?_append_left (by rw [List.length_drop]; omega), List.getElem?_drop] at hj
      refine ⟨by omega, ?_⟩
      rw [show j + (Os.length + 1 - (Os.length - 1 + 1)) = 1 + j by omega]
      exact hj
    · left
      rw [List.getElem?_append_right (by rw [List.length_drop]; omega), List.length_drop, show j - (Os.length - 1) = 0 by omega] at hj
      cases hj
      exact ⟨by omega, rfl⟩
  · rw [if_neg z] at hj hjl hl ⊢
    rw [List.length_append] at hjl hl ⊢
    simp only [List.length_singleton] at hjl hl ⊢
    by_cases y : j < Os.length
    · right
      rw [List.getElem?_append_left y] at hj
      exact ⟨by omega, by rw [show j + (Os.length + 1 - (Os.length + 1)) = j by omega]; exact hj⟩
    · left
      rw [List.getElem?_append_right (by omega), show j - Os.length = 0 by omega] at hj
      cases hj
      exact ⟨by omega, rfl⟩
theorem c_keep (l : Launch) (u : Mem) {m N : Nat} {T : List Int} {Os : List (List Int)} (hm : MF u m) (h : MTt u m N T Os) (hN1 : N + 1 ≤ 1000) : Mt_ l yX13_keep cX13_keep 3 none 0 0 0 [aR m] u (qV fun v => Cg m u v [37, 38] [27, 28] ∧ MTt v m (N + 1) T (psh Os T)) := by
  obtain ⟨⟨t1, t2, t3, t4⟩, ⟨o1, o2, o3, o4, o5⟩, op⟩ := h
  have ed0 : 0 ≤ iv_ u m 37 := by omega
  refine Mt_of (by decide) (Nat.le_of_ble_eq_true rfl) (fun X ho hX hN hI => ?_)
  subst hX
  show Z X 0 [some (aR m), none, none] [] u 0 0
  generalize he : iv_ u m 37 = ed at *
  have e0 : 0 ≤ ed % 21 := by omega
  have e1 : ed % 21 < 21 := by omega
  have key : ∀ (a b : Nat), a + b = T.length → Z X 10 [some (aR m), some (aI (ed % 21)), some (aI (b : Int))] [] (cpA u (m + 27) (m + 26) (120 * (ed % 21)) 0 b) 0 0 := by
    intro a
    induction a with
    | zero =>
      intro b hb
      have hbl : b = T.length := by omega
      have c2 : Cg m u (cpA u (m + 27) (m + 26) (120 * (ed % 21)) 0 b) [37, 38] [27, 28] := cpA_cg (Cg.rf m u _ _) (by decide) (by decide) (by decide)
      have t4' := cpA_sub (u := u) (a := m + 27) (b := m + 26) (d := 120 * (ed % 21)) (s := 0) (t := T) t2
      rw [← hbl] at t4'
      have o27 : ∀ j : Int, ¬ (120 * (ed % 21) ≤ j ∧ j < 120 * (ed % 21) + 120) → iv_ (cpA u (m + 27) (m + 26) (120 * (ed % 21)) 0 b) (m + 27) j = iv_ u (m + 27) j := fun j hj => by rw [cpA_iv, if_neg (by omega)]
      have oth : ∀ c, c ≠ m + 27 → iv_ (cpA u (m + 27) (m + 26) (120 * (ed % 21)) 0 b) c = iv_ u c := fun c hc => cpA_o hc
      have hm2 : MF (cpA u (m + 27) (m + 26) (120 * (ed % 21)) 0 b) m := hm
      generalize cpA u (m + 27) (m + 26) (120 * (ed % 21)) 0 b = w at *
      have e34 : iv_ w m 34 = (T.length : Int) := by rw [oth _ (by omega)]; exact t1
      have e37 : iv_ (wI_ w (m + 28) (ed % 21) (T.length : Int)) m 37 = ed := by rw [ivf (by omega), oth _ (by omega)]; exact he
      have fin : ∀ kp : Int, kp = ((psh Os T).length : Int) → Z X 82 [some (aR m), some (aI (ed % 21)), some (aI (b : Int))] [aI kp, aR m] (wI_ (wI_ w (m + 28) (ed % 21) (T.length : Int)) m 37 (ed + 1)) 0 0 := fun kp hkp => by
        refine pX13_234 ho dX13_keep_82 hm2.1  ?_
        refine r_V ho dX13_keep_85 (Nat.le_of_ble_eq_true rfl) (Nat.le_of_ble_eq_true rfl) ?_
        rw [hkp]
        have hC : Cg m u (wI_ (wI_ (wI_ w (m + 28) (ed % 21) (T.length : Int)) m 37 (ed + 1)) m 38 ((psh Os T).length : Int)) [37, 38] [27, 28] := ((c2.a 28 _ _ (by decide) (by decide) (by decide)).f 37 _ (by decide)).f 38 _ (by decide)
        have f34 : iv_ (wI_ (wI_ (wI_ w (m + 28) (ed % 21) (T.length : Int)) m 37 (ed + 1)) m 38 ((psh Os T).length : Int)) m 34 = (T.length : Int) := by rw [hC.2.1 34 (by decide)]; exact t1
        have f37 : iv_ (wI_ (wI_ (wI_ w (m + 28) (ed % 21) (T.length : Int)) m 37 (ed + 1)) m 38 ((psh Os T).length : Int)) m 37 = ed + 1 := by rw [iv_wI, if_neg (by omega), iv_wI, if_pos ⟨rfl, rfl⟩]
        have f38 : iv_ (wI_ (wI_ (wI_ w (m + 28) (ed % 21) (T.length : Int)) m 37 (ed + 1)) m 38 ((psh Os T).length : Int)) m 38 = ((psh Os T).length : Int) := by rw [iv_wI, if_pos ⟨rfl, rfl⟩]
        have f27 : iv_ (wI_ (wI_ (wI_ w (m + 28) (ed % 21) (T.length : Int)) m 37 (ed + 1)) m 38 ((psh Os T).length : Int)) (m + 27) = iv_ w (m + 27) := by rw [ivf (by omega), ivf (by omega), ivf (by omega)]
        have f28 : ∀ j, iv_ (wI_ (wI_ (wI_ w (m + 28) (ed % 21) (T.length : Int)) m 37 (ed + 1)) m 38 ((psh Os T).length : Int)) (m + 28) j = if j = ed % 21 then (T.length : Int) else iv_ u (m + 28) j := fun j => by
          rw [ivf (by omega), ivf (by omega), iv_wI, oth _ (by omega)]
          by_cases z : j = ed % 21
          · rw [if_pos ⟨rfl, z⟩, if_pos z]
          · rw [if_neg (fun y => z y.2), if_neg z]
        have f26 := hC.2.2 26 (by decide) (by decide)
        obtain ⟨p1, p2⟩ := psh_len Os T o2
        generalize wI_ (wI_ (wI_ w (m + 28) (ed % 21) (T.length : Int)) m 37 (ed + 1)) m 38 ((psh Os T).length : Int) = v at *
        refine ⟨hC, ⟨f34, by rw [f26]; exact t2, t3, t4⟩, ⟨f38, p1, by rw [f37, p2]; split <;> omega, by rw [f37]; omega, hN1⟩, fun j O hj => ?_⟩
        rw [f37, f27, f28]
        rcases psh_get o2 hj with ⟨z1, z2⟩ | ⟨z1, z2⟩
        · have ei : (ed + 1 - ((psh Os T).length : Int) + (j : Int)) = ed := by omega
          rw [ei, if_pos rfl, z2]
          exact ⟨rfl, by rw [hbl] at t4'; exact t4', t3, t4⟩
        · obtain ⟨r1, r2, r3, r4⟩ := op _ O z2
          have hjl := (List.getElem?_eq_some_iff.mp z2).1
          have hp : (psh Os T).length ≤ Os.length + 1 := by rw [p2]; split <;> omega
          have ei : (ed + 1 - ((psh Os T).length : Int) + (j : Int)) = ed - (Os.length : Int) + ((j + (Os.length + 1 - (psh Os T).length) : Nat) : Int) := by omega
          rw [ei]
          generalize (j + (Os.length + 1 - (psh Os T).length) : Nat) = q at *
          have hne : (ed - (Os.length : Int) + (q : Int)) % 21 ≠ ed % 21 := by omega
          rw [if_neg hne]
          refine ⟨r1, ?_, r3, r4⟩
          conv => rhs; rw [← r2]
          refine sub_ext (fun y y0 y1 => ?_)
          rw [o27 _ (by omega)]
      refine z_iload_n ho dX13_keep_10 rfl ?_
      refine z_aload_n ho dX13_keep_11 rfl ?_
      refine gX13_232 ho dX13_keep_12 hm2.1 ?_
      refine z_icmp_ge (tgt := 41) ho dX13_keep_15 (by decide) (by unfold rng; omega) (by rw [e34]; unfold rng; omega) (fun c15 => ?_) (fun c15 => ?_)
      · 
        refine z_aload_n ho dX13_keep_41 rfl ?_
        refine gX13_96 ho dX13_keep_42 hm2.1 (mget hm2.r36 ?_)
        refine z_iload_n ho dX13_keep_45 rfl ?_
        refine z_aload_n ho dX13_keep_46 rfl ?_
        refine gX13_232 ho dX13_keep_47 hm2.1 ?_
        rw [e34]
        refine z_iast ho dX13_keep_50 hm2.k28 (by omega) (hm2.t28 (by omega)) ?_
        refine z_aload_n ho dX13_keep_51 rfl ?_
        refine z_dup ho dX13_keep_52 rfl ?_
        refine gX13_229 ho dX13_keep_53 hm2.1 ?_
        refine z_iconst ho dX13_keep_56 ?_
        rw [e37]
        refine z_iadd ho dX13_keep_57 ?_
        refine pX13_229 ho dX13_keep_58 hm2.1  ?_
        have e38 : iv_ (wI_ (wI_ w (m + 28) (ed % 21) (T.length : Int)) m 37 (ed + 1)) m 38 = (Os.length : Int) := by rw [iv_wI, if_neg (by omega), ivf (by omega), oth _ (by omega)]; exact o1
        obtain ⟨p1, p2⟩ := psh_len Os T o2
        refine z_aload_n ho dX13_keep_61 rfl ?_
        refine z_aload_n ho dX13_keep_62 rfl ?_
        refine gX13_234 ho dX13_keep_63 hm2.1 ?_
        refine z_bipush ho dX13_keep_66 rfl ?_
        refine z_icmp_ge (tgt := 80) ho dX13_keep_68 (by decide) (by rw [e38]; unfold rng; omega) (by unfold rng; omega) (fun c68 => ?_) (fun c68 => ?_)
        · rw [e38] at c68
          refine z_bipush ho dX13_keep_80 rfl ?_
          exact fin 20 (by rw [p2, if_pos (by omega)]; rfl)
        · rw [e38] at c68
          refine z_aload_n ho dX13_keep_71 rfl ?_
          refine gX13_234 ho dX13_keep_72 hm2.1 ?_
          refine z_iconst ho dX13_keep_75 ?_
          refine z_iadd ho dX13_keep_76 ?_
          refine z_goto (tgt := 82) ho dX13_keep_77 (by decide) ?_
          rw [e38]
          exact fin _ (by rw [p2, if_neg (by omega)]; omega)
      · omega
    | succ a ih =>
      intro b hb
      have nx := ih (b + 1) (by omega)
      obtain ⟨s1, s2⟩ := cpA_s (u := u) (a := m + 27) (b := m + 26) (d := 120 * (ed % 21)) (s := 0) (by omega) b
      rw [Int.zero_add] at s1 s2
      have e34 : iv_ (cpA u (m + 27) (m + 26) (120 * (ed % 21)) 0 b) m 34 = (T.length : Int) := by rw [cpA_o (by omega)]; exact t1
      refine z_iload_n ho dX13_keep_10 rfl ?_
      refine z_aload_n ho dX13_keep_11 rfl ?_
      refine gX13_232 ho dX13_keep_12 hm.1 ?_
      refine z_icmp_ge (tgt := 41) ho dX13_keep_15 (by decide) (by unfold rng; omega) (by rw [e34]; unfold rng; omega) (fun c15 => ?_) (fun c15 => ?_)
      · omega
      · 
        refine z_aload_n ho dX13_keep_18 rfl ?_
        refine gX13_93 ho dX13_keep_19 hm.1 (mget hm.r35 ?_)
        refine z_bipush ho dX13_keep_22 rfl ?_
        refine z_iload_n ho dX13_keep_24 rfl ?_
        refine z_imul ho dX13_keep_25 ?_
        refine z_iload_n ho dX13_keep_26 rfl ?_
        refine z_iadd ho dX13_keep_27 ?_
        refine z_aload_n ho dX13_keep_28 rfl ?_
        refine gX13_90 ho dX13_keep_29 hm.1 (mget hm.r33 ?_)
        refine z_iload_n ho dX13_keep_32 rfl ?_
        refine z_iald ho dX13_keep_33 hm.k26 (by omega) (hm.t26 (by omega)) ?_
        refine z_iast ho dX13_keep_34 hm.k27 (by omega) (hm.t27 (by omega)) ?_
        refine z_iinc ho dX13_keep_35 rfl rfl ?_
        refine z_goto (tgt := 10) ho dX13_keep_38 (by decide) ?_
        rw [s1, s2]
        exact nx
  have k0 := key T.length 0 rfl
  rw [show ((0 : Nat) : Int) = 0 from rfl, cpA_0] at k0
  refine z_aload_n ho dX13_keep_0 rfl ?_
  refine gX13_229 ho dX13_keep_1 hm.1 ?_
  rw [he]
  refine z_bipush ho dX13_keep_4 rfl ?_
  refine z_irem ho dX13_keep_6 (by omega) (by omega) (by omega) (by omega) ?_
  refine z_istore_n ho dX13_keep_7 (Nat.le_of_ble_eq_true rfl) rfl ?_
  refine z_iconst ho dX13_keep_8 ?_
  refine z_istore_n ho dX13_keep_9 (Nat.le_of_ble_eq_true rfl) rfl ?_
  exact k0
theorem c_minsert (l : Launch) (u : Mem) {m N : Nat} {i : Int} {tp fd : List Int} {M : Nat → List KV} {ch : Nat → Int} {VL : List VS} {Ks : List (List Int)} {T : List Int} {Os : List (List Int)} (h : MS u m N tp fd M ch VL Ks T Os) (ri : rng i) (hN1 : N + 1 ≤ 1000) :
    Mt_ l yX13_insert cX13_insert 4 (some .int) 2 0 0 [aR m, aI i] u (qI fun r v => (¬ (0 ≤ i ∧ i ≤ T.length) ∧ qM m N u 1 tp fd M ch VL Ks T Os v) ∨ (0 ≤ i ∧ i ≤ T.length ∧ 120 < T.length + tp.length ∧ qM m N u 2 [] fd M ch VL Ks T Os v) ∨ (0 ≤ i ∧ i ≤ T.length ∧ T.length + tp.length ≤ 120 ∧ r = (T.take i.toNat ++ (tp ++ T.drop i.toNat)).length ∧ qM m (N + 1) u 0 [] fd M ch VL Ks (T.take i.toNat ++ (tp ++ T.drop i.toNat)) (psh Os T) v)) := by
  have hm := h.1
  have hT := h.2.2.2.2.2.2.2.1
  have e34 := hT.1.1
  have t120 := hT.1.2.2.1
  have h2 := h.2.1.1
  have tl := h.2.1.2.2.1
  have htc := h.2.1.2.2.2
  refine Mt_of (by decide) (Nat.le_of_ble_eq_true rfl) (fun X ho hX hN hI => ?_)
  subst hX
  show Z X 0 [some (aR m), some (aI i), none, none] [] u 0 0
  have bad : ¬ (0 ≤ i ∧ i ≤ (T.length : Int)) → Z X 12 [some (aR m), some (aI i), none, none] [] u 0 0 := fun hn => by
    refine z_aload_n ho dX13_insert_12 rfl ?_
    refine z_iconst ho dX13_insert_13 ?_
    refine kX13_126 ho hN (c_raise _ _ hm) dX13_insert_14 hm.1 (Nat.le_of_ble_eq_true rfl) (Nat.le_of_ble_eq_true rfl) (Nat.le_of_ble_eq_true rfl) (Nat.le_of_ble_eq_true rfl) (fun x14 u14 h14 => ?_)
    obtain ⟨rfl, rfl⟩ := h14
    refine r_I ho dX13_insert_17 (Nat.le_of_ble_eq_true rfl) (Nat.le_of_ble_eq_true rfl) ?_
    exact Or.inl ⟨hn, qM_raise h⟩
  refine z_iload_n ho dX13_insert_0 rfl ?_
  refine z_if_lt (tgt := 12) ho dX13_insert_1 (by decide) ri (fun c1 => ?_) (fun c1 => ?_)
  · exact bad (by omega)
  · 
    refine z_iload_n ho dX13_insert_4 rfl ?_
    refine z_aload_n ho dX13_insert_5 rfl ?_
    refine gX13_232 ho dX13_insert_6 hm.1 ?_
    refine z_icmp_le (tgt := 18) ho dX13_insert_9 (by decide) ri (by rw [e34]; unfold rng; omega) (fun c9 => ?_) (fun c9 => ?_)
    · rw [e34] at c9
      have e34' : iv_ (wI_ u m 2 0) m 34 = (T.length : Int) := by rw [iv_wI, if_neg (by omega)]; exact e34
      refine z_aload_n ho dX13_insert_18 rfl ?_
      refine gX13_102 ho dX13_insert_19 hm.1 ?_
      refine z_istore_n ho dX13_insert_22 (Nat.le_of_ble_eq_true rfl) rfl ?_
      rw [h2]
      refine z_aload_n ho dX13_insert_23 rfl ?_
      refine z_iconst ho dX13_insert_24 ?_
      refine pX13_102 ho dX13_insert_25 hm.1  ?_
      refine z_aload_n ho dX13_insert_28 rfl ?_
      refine gX13_232 ho dX13_insert_29 hm.1 ?_
      refine z_iload_n ho dX13_insert_32 rfl ?_
      refine z_iadd ho dX13_insert_33 ?_
      refine z_bipush ho dX13_insert_34 rfl ?_
      refine z_icmp_le (tgt := 45) ho dX13_insert_36 (by decide) (by rw [e34']; unfold rng; omega) (by unfold rng; omega) (fun c36 => ?_) (fun c36 => ?_)
      · rw [e34'] at c36
        have c0 : Cg m u (wI_ (wI_ u m 2 0) m 0 0) [0, 2] [] := ((Cg.rf m u _ _).f 2 0 (by decide)).f 0 0 (by decide)
        have f0 : iv_ (wI_ (wI_ u m 2 0) m 0 0) m 0 = 0 := by rw [iv_wI, if_pos ⟨rfl, rfl⟩]
        have f2 : iv_ (wI_ (wI_ u m 2 0) m 0 0) m 2 = 0 := by rw [iv_wI, if_neg (by omega), iv_wI, if_pos ⟨rfl, rfl⟩]
        refine z_aload_n ho dX13_insert_45 rfl ?_
        refine z_iconst ho dX13_insert_46 ?_
        refine pX13_99 ho dX13_insert_47 hm.1  ?_
        refine z_aload_n ho dX13_insert_50 rfl ?_
        refine kX13_237 ho hN (c_keep _ _ hm (hT.cg c0 (by decide) (by decide)) hN1) dX13_insert_51 hm.1 (Nat.le_of_ble_eq_true rfl) (Nat.le_of_ble_eq_true rfl) (Nat.le_of_ble_eq_true rfl) (Nat.le_of_ble_eq_true rfl) (fun u51 h51 => ?_)
        obtain ⟨g1, g2⟩ := h51
        have hC : Cg m u u51 [0, 2, 34, 37, 38] [26, 27, 28] := (c0.mono (by decide) (by decide)).tr (g1.mono (by decide) (by decide))
        have f0' : iv_ u51 m 0 = 0 := by rw [g1.2.1 0 (by decide)]; exact f0
        have f2' : iv_ u51 m 2 = 0 := by rw [g1.2.1 2 (by decide)]; exact f2
        generalize u51 = w at *
        have hm := hm.im hC.1
        have x34 := g2.1.1
        have x1 : iv_ w (m + 1) = iv_ u (m + 1) := hC.2.2 1 (by decide) (by decide)
        obtain ⟨⟨-, s2, -, s4⟩, gO, gP⟩ := g2
        obtain ⟨a, rfl⟩ : ∃ a : Nat, i = (a : Int) := ⟨i.toNat, by omega⟩
        simp only [Int.toNat_natCast] at ho
        -- the end: the array is f
        have fin : ∀ f : Int → Int, (∀ j : Int, 0 ≤ j → j < a → f j = iv_ w (m + 26) j) → sub_ f (a : Int) tp.length = tp → (∀ j : Int, a + tp.length ≤ j → j < T.length + tp.length → f j = iv_ w (m + 26) (j - tp.length)) → Z X 113 [some (aR m), some (aI (a : Int)), some (aI tp.length), some (aI (tp.length : Int))] [] (upA w (m + 26) f) 0 0 := fun f h1 h2' h3 => by
          have y34 : iv_ (upA w (m + 26) f) m 34 = (T.length : Int) := by rw [upA_o (by omega)]; exact x34
          have hm2 : MF (upA w (m + 26) f) m := hm
          refine z_aload_n ho dX13_insert_113 rfl ?_
          refine z_dup ho dX13_insert_114 rfl ?_
          refine gX13_232 ho dX13_insert_115 hm2.1 ?_
          rw [y34]
          refine z_iload_n ho dX13_insert_118 rfl ?_
          refine z_iadd ho dX13_insert_119 ?_
          refine pX13_232 ho dX13_insert_120 hm2.1  ?_
          refine z_aload_n ho dX13_insert_123 rfl ?_
          refine gX13_232 ho dX13_insert_124 hm2.1 ?_
          refine r_I ho dX13_insert_127 (Nat.le_of_ble_eq_true rfl) (Nat.le_of_ble_eq_true rfl) ?_
          have tx : sub_ f 0 (a + (tp.length + (T.length - a))) = T.take a ++ (tp ++ T.drop a) := by
            rw [sub_add, sub_add, Int.zero_add, h2']
            congr 1
            · conv => rhs; rw [← s2]
              rw [sub_take _ _ (by omega)]
              exact sub_ext (fun y y0 y1 => by rw [Int.zero_add]; exact h1 y y0 (by omega))
            · congr 1
              conv => rhs; rw [← s2]
              rw [sub_drop _ _ (by omega)]
              refine sub_ext (fun y y0 y1 => ?_)
              rw [h3 _ (by omega) (by omega)]
              congr 1; omega
          have hlen : (T.take a ++ (tp ++ T.drop a)).length = a + (tp.length + (T.length - a)) := by rw [← tx, sub_len]
          have cc : ∀ c ∈ T.take a ++ (tp ++ T.drop a), 0 ≤ c ∧ c < 65536 := fun c hc => by
            rcases List.mem_append.mp hc with z | z
            · exact s4 c (List.mem_of_mem_take z)
            · rcases List.mem_append.mp z with z | z
              · exact htc c z
              · exact s4 c (List.mem_of_mem_drop z)
          have hC2 : Cg m u (wI_ (upA w (m + 26) f) m 34 ((T.length : Int) + (tp.length : Int))) [0, 2, 34, 37, 38] [26, 27, 28] := (upA_cg hC (by decide) (by decide) (by decide)).f 34 _ (by decide)
          have z34 : iv_ (wI_ (upA w (m + 26) f) m 34 ((T.length : Int) + (tp.length : Int))) m 34 = (T.length : Int) + (tp.length : Int) := by rw [iv_wI, if_pos ⟨rfl, rfl⟩]
          have zo : ∀ k : Int, k ≠ 34 → iv_ (wI_ (upA w (m + 26) f) m 34 ((T.length : Int) + (tp.length : Int))) m k = iv_ w m k := fun k hk => by rw [iv_wI, if_neg (fun z => hk z.2), upA_o (by omega)]
          have z26 : iv_ (wI_ (upA w (m + 26) f) m 34 ((T.length : Int) + (tp.length : Int))) (m + 26) = f := by rw [ivf (by omega), upA_s]
          have zz : ∀ b : Nat, b ≠ m + 26 → b ≠ m → iv_ (wI_ (upA w (m + 26) f) m 34 ((T.length : Int) + (tp.length : Int))) b = iv_ w b := fun b hb hb' => by rw [ivf hb', upA_o hb]
          generalize wI_ (upA w (m + 26) f) m 34 ((T.length : Int) + (tp.length : Int)) = v at *
          obtain ⟨b1, b2, b3, b4, b5, b6, b7, b8, b9⟩ := h
          rw [z34]
          refine Or.inr (Or.inr ⟨by omega, by omega, by omega, by rw [hlen]; omega, hC2.1, by rw [zo 0 (by decide)]; exact f0', b1.im hC2.1, MTp.nil (by rw [zo 2 (by decide)]; exact f2'), b3.cg hC2 (by decide) (by decide), b4.cg hC2 (by decide), b5.cg hC2 (by decide) (by decide), b6.cg hC2 (by decide), b7.cg hC2 (by decide) (by decide), ⟨⟨by rw [z34, hlen]; omega, by rw [z26, hlen]; exact tx, by rw [hlen]; omega, cc⟩, by rw [zo 38 (by decide), zo 37 (by decide)]; exact gO, fun j O hj => by rw [zo 37 (by decide), zz _ (by omega) (by omega), zz _ (by omega) (by omega)]; exact gP j O hj⟩, b9⟩)
        -- the second loop
        have l2 : ∀ (f : Int → Int), (∀ j : Int, 0 ≤ j → j < a → f j = iv_ w (m + 26) j) → (∀ j : Int, a + tp.length ≤ j → j < T.length + tp.length → f j = iv_ w (m + 26) (j - tp.length)) → ∀ (d n : Nat), d + n = tp.length → Z X 88 [some (aR m), some (aI (a : Int)), some (aI tp.length), some (aI (n : Int))] [] (upA w (m + 26) (fun j => if (a : Int) ≤ j ∧ j < a + n then iv_ w (m + 1) (j - a) else f j)) 0 0 := by
          intro f h1 h3 d
          induction d with
          | zero =>
            intro n hn
            have hnl : (n : Int) = (tp.length : Int) := by omega
            have fi := fin (fun j => if (a : Int) ≤ j ∧ j < a + n then iv_ w (m + 1) (j - a) else f j) (fun j j0 j1 => by rw [if_neg (by omega)]; exact h1 j j0 j1) (by
              conv => rhs; rw [← h.2.1.2.1]
              refine sub_ext (fun y y0 y1 => ?_)
              rw [if_pos (by omega), x1]
              congr 1; omega) (fun j j0 j1 => by rw [if_neg (by omega)]; exact h3 j j0 j1)
            have hm2 : MF (upA w (m + 26) (fun j => if (a : Int) ≤ j ∧ j < a + n then iv_ w (m + 1) (j - a) else f j)) m := hm
            refine z_iload_n ho dX13_insert_88 rfl ?_
            refine z_iload_n ho dX13_insert_89 rfl ?_
            refine z_icmp_ge (tgt := 113) ho dX13_insert_90 (by decide) (by unfold rng; omega) (by unfold rng; omega) (fun c90 => ?_) (fun c90 => ?_)
            · rw [hnl] at fi ⊢; exact fi
            · omega
          | succ d ih =>
            intro n hn
            have nx := ih (n + 1) (by omega)
            have hm2 : MF (upA w (m + 26) (fun j => if (a : Int) ≤ j ∧ j < a + n then iv_ w (m + 1) (j - a) else f j)) m := hm
            have et : iv_ (upA w (m + 26) (fun j => if (a : Int) ≤ j ∧ j < a + n then iv_ w (m + 1) (j - a) else f j)) (m + 1) = iv_ w (m + 1) := upA_o (by omega)
            refine z_iload_n ho dX13_insert_88 rfl ?_
            refine z_iload_n ho dX13_insert_89 rfl ?_
            refine z_icmp_ge (tgt := 113) ho dX13_insert_90 (by decide) (by unfold rng; omega) (by unfold rng; omega) (fun c90 => ?_) (fun c90 => ?_)
            · omega
            · 
              refine z_aload_n ho dX13_insert_93 rfl ?_
              refine gX13_90 ho dX13_insert_94 hm2.1 (mget hm2.r33 ?_)
              refine z_iload_n ho dX13_insert_97 rfl ?_
              refine z_iload_n ho dX13_insert_98 rfl ?_
              refine z_iadd ho dX13_insert_99 ?_
              refine z_aload_n ho dX13_insert_100 rfl ?_
              refine gX13_7 ho dX13_insert_101 hm2.1 (mget hm2.r1 ?_)
              refine z_iload_n ho dX13_insert_104 rfl ?_
              refine z_iald ho dX13_insert_105 hm2.k1 (by omega) (hm2.t1 (by omega)) ?_
              refine z_iast ho dX13_insert_106 hm2.k26 (by omega) (hm2.t26 (by omega)) ?_
              refine z_iinc ho dX13_insert_107 rfl rfl ?_
              refine z_goto (tgt := 88) ho dX13_insert_110 (by decide) ?_
              rw [et, upA_w]
              have ef : (fun j : Int => if j = (a : Int) + (n : Int) then iv_ w (m + 1) (n : Int) else if (a : Int) ≤ j ∧ j < a + n then iv_ w (m + 1) (j - a) else f j) = (fun j => if (a : Int) ≤ j ∧ j < a + ((n + 1 : Nat) : Int) then iv_ w (m + 1) (j - a) else f j) := by
                funext j
                by_cases z : j = (a : Int) + (n : Int)
                · rw [if_pos z, if_pos (by omega)]
                  congr 1; omega
                · rw [if_neg z]
                  by_cases y : (a : Int) ≤ j ∧ j < a + n
                  · rw [if_pos y, if_pos (by omega)]
                  · rw [if_neg y, if_neg (by omega)]
              rw [ef]
              exact nx
        -- the first loop
        have l1 : ∀ (d n : Nat), d + a = n → n ≤ T.length → Z X 61 [some (aR m), some (aI (a : Int)), some (aI tp.length), some (aI ((n : Int) - 1))] [] (upA w (m + 26) (fun j => if (n : Int) + tp.length ≤ j ∧ j < T.length + tp.length then iv_ w (m + 26) (j - tp.length) else iv_ w (m + 26) j)) 0 0 := by
          intro d
          induction d with
          | zero =>
            intro n hn hnT
            have hna : (n : Int) = (a : Int) := by omega
            have hm2 : MF (upA w (m + 26) (fun j => if (n : Int) + tp.length ≤ j ∧ j < T.length + tp.length then iv_ w (m + 26) (j - tp.length) else iv_ w (m + 26) j)) m := hm
            have l20 := l2 (fun j => if (n : Int) + tp.length ≤ j ∧ j < T.length + tp.length then iv_ w (m + 26) (j - tp.length) else iv_ w (m + 26) j) (fun j j0 j1 => by rw [if_neg (by omega)]) (fun j j0 j1 => by rw [if_pos (by omega)]) tp.length 0 rfl
            have ef : (fun j : Int => if (a : Int) ≤ j ∧ j < a + ((0 : Nat) : Int) then iv_ w (m + 1) (j - a) else if (n : Int) + tp.length ≤ j ∧ j < T.length + tp.length then iv_ w (m + 26) (j - tp.length) else iv_ w (m + 26) j) = (fun j => if (n : Int) + tp.length ≤ j ∧ j < T.length + tp.length then iv_ w (m + 26) (j - tp.length) else iv_ w (m + 26) j) := funext fun j => by rw [if_neg (by omega)]
            rw [ef] at l20
            refine z_iload_n ho dX13_insert_61 rfl ?_
            refine z_iload_n ho dX13_insert_62 rfl ?_
            refine z_icmp_lt (tgt := 86) ho dX13_insert_63 (by decide) (by unfold rng; omega) (by unfold rng; omega) (fun c63 => ?_) (fun c63 => ?_)
            · 
              refine z_iconst ho dX13_insert_86 ?_
              refine z_istore_n ho dX13_insert_87 (Nat.le_of_ble_eq_true rfl) rfl ?_
              exact l20
            · omega
          | succ d ih =>
            intro n hn hnT
            obtain ⟨n', rfl⟩ : ∃ n', n = n' + 1 := ⟨n - 1, by omega⟩
            have nx := ih n' (by omega) (by omega)
            have hm2 : MF (upA w (m + 26) (fun j => if ((n' + 1 : Nat) : Int) + tp.length ≤ j ∧ j < T.length + tp.length then iv_ w (m + 26) (j - tp.length) else iv_ w (m + 26) j)) m := hm
            rw [show ((n' + 1 : Nat) : Int) - 1 = (n' : Int) by omega]
            have et : iv_ (upA w (m + 26) (fun j => if ((n' + 1 : Nat) : Int) + tp.length ≤ j ∧ j < T.length + tp.length then iv_ w (m + 26) (j - tp.length) else iv_ w (m + 26) j)) (m + 26) (n' : Int) = iv_ w (m + 26) (n' : Int) := by rw [upA_s, if_neg (by omega)]
            refine z_iload_n ho dX13_insert_61 rfl ?_
            refine z_iload_n ho dX13_insert_62 rfl ?_
            refine z_icmp_lt (tgt := 86) ho dX13_insert_63 (by decide) (by unfold rng; omega) (by unfold rng; omega) (fun c63 => ?_) (fun c63 => ?_)
            · omega
            · 
              refine z_aload_n ho dX13_insert_66 rfl ?_
              refine gX13_90 ho dX13_insert_67 hm2.1 (mget hm2.r33 ?_)
              refine z_iload_n ho dX13_insert_70 rfl ?_
              refine z_iload_n ho dX13_insert_71 rfl ?_
              refine z_iadd ho dX13_insert_72 ?_
              refine z_aload_n ho dX13_insert_73 rfl ?_
              refine gX13_90 ho dX13_insert_74 hm2.1 (mget hm2.r33 ?_)
              refine z_iload_n ho dX13_insert_77 rfl ?_
              refine z_iald ho dX13_insert_78 hm2.k26 (by omega) (hm2.t26 (by omega)) ?_
              refine z_iast ho dX13_insert_79 hm2.k26 (by omega) (hm2.t26 (by omega)) ?_
              refine z_iinc ho dX13_insert_80 rfl rfl ?_
              refine z_goto (tgt := 61) ho dX13_insert_83 (by decide) ?_
              rw [et, upA_w]
              have ef : (fun j : Int => if j = (n' : Int) + (tp.length : Int) then iv_ w (m + 26) (n' : Int) else if ((n' + 1 : Nat) : Int) + tp.length ≤ j ∧ j < T.length + tp.length then iv_ w (m + 26) (j - tp.length) else iv_ w (m + 26) j) = (fun j => if (n' : Int) + tp.length ≤ j ∧ j < T.length + tp.length then iv_ w (m + 26) (j - tp.length) else iv_ w (m + 26) j) := by
                funext j
                by_cases z : j = (n' : Int) + (tp.length : Int)
                · rw [if_pos z, if_pos (by omega)]
                  congr 1; omega
                · rw [if_neg z]
                  by_cases y : ((n' + 1 : Nat) : Int) + tp.length ≤ j ∧ j < T.length + tp.length
                  · rw [if_pos y, if_pos (by omega)]
                  · rw [if_neg y, if_neg (by omega)]
              rw [ef]
              exact nx
        have k0 := l1 (T.length - a) T.length (by omega) (Nat.le_refl _)
        have ef : (fun j : Int => if (T.length : Int) + tp.length ≤ j ∧ j < T.length + tp.length then iv_ w (m + 26) (j - tp.length) else iv_ w (m + 26) j) = iv_ w (m + 26) := funext fun j => by rw [if_neg (by omega)]
        rw [ef, upA_r] at k0
        refine z_aload_n ho dX13_insert_54 rfl ?_
        refine gX13_232 ho dX13_insert_55 hm.1 ?_
        rw [x34]
        refine z_iconst ho dX13_insert_58 ?_
        refine z_isub ho dX13_insert_59 ?_
        refine z_istore_n ho dX13_insert_60 (Nat.le_of_ble_eq_true rfl) rfl ?_
        exact k0
      · rw [e34'] at c36
        refine z_aload_n ho dX13_insert_39 rfl ?_
        refine z_iconst ho dX13_insert_40 ?_
        refine kX13_126 ho hN (c_raise _ _ hm) dX13_insert_41 hm.1 (Nat.le_of_ble_eq_true rfl) (Nat.le_of_ble_eq_true rfl) (Nat.le_of_ble_eq_true rfl) (Nat.le_of_ble_eq_true rfl) (fun x41 u41 h41 => ?_)
        obtain ⟨rfl, rfl⟩ := h41
        refine r_I ho dX13_insert_44 (Nat.le_of_ble_eq_true rfl) (Nat.le_of_ble_eq_true rfl) ?_
        exact Or.inr (Or.inl ⟨by omega, by omega, by omega, qM_raise2 h⟩)
    · rw [e34] at c9
      exact bad (by omega)
