set_option maxRecDepth 100000
/-! ===== Scroll.isBefore, bound ===== -/
def Bf (K : List Int) (fu : Int) (s : List Int) : Prop := s < K ∨ (fu = 1 ∧ K <+: s)
theorem pre_nlt {K s : List Int} (h : K <+: s) : ¬ s < K := by
  obtain ⟨t, rfl⟩ := h
  intro z
  have := (app_ltl K (x := t) (y := [])).mp (by rw [List.append_nil]; exact z)
  exact List.not_lt_nil _ this
theorem pre_mid : ∀ {K s t : List Int}, ¬ s < K → s < t → K <+: t → K <+: s := by
  intro K
  induction K with
  | nil => intro s t _ _ _; exact List.nil_prefix
  | cons c K ih =>
    intro s t h1 h2 h3
    cases t with
    | nil => simp at h3
    | cons d t =>
      rw [List.cons_prefix_cons] at h3
      obtain ⟨rfl, h3⟩ := h3
      cases s with
      | nil => exact absurd (List.nil_lt_cons c K) h1
      | cons e s =>
        rw [ltc] at h1 h2
        have he : e = c := by omega
        subst he
        rw [List.cons_prefix_cons]
        exact ⟨rfl, ih (fun z => h1 (Or.inr ⟨rfl, z⟩)) (by rcases h2 with q | q; (· omega); exact q.2) h3⟩
theorem Bf.mono {K : List Int} {fu : Int} {s t : List Int} (h : s < t) (hb : Bf K fu t) : Bf K fu s := by
  rcases hb with q | ⟨q1, q2⟩
  · exact Or.inl (List.lt_trans h q)
  · by_cases z : s < K
    · exact Or.inl z
    · exact Or.inr ⟨q1, pre_mid z h q2⟩
theorem c_isBefore (l : Launch) (u : Mem) {E sc k x : Nat} {T : List Int} {fu : Int} (ks : kd_ u sc = 10) (hR : RO E u (rv_ u sc 0) T) (hT : T.length ≤ 120) (hk : Ky u k) (hx : x ≤ T.length) (hfu : fu = 0 ∨ fu = 1) :
    Mt_ l yX10_isBefore cX10_isBefore 6 (some .boolean) 1 0 0 [aR sc, aI (x : Int), aR k, aI fu] u (qI fun r v => u = v ∧ qB r (Bf (tx u k) fu (T.drop x))) := by
  have hkn := hk.tx_len
  have hn8 := hk.2.2.2.2.2.1
  refine Mt_of (by decide) (Nat.le_of_ble_eq_true rfl) (fun X ho hX hN hI => ?_)
  subst hX
  show Z X 0 [some (aR sc), some (aI  (x:Int)), some (aR k), some (aI fu), none, none] [] u 0 0
  refine z_wf (fun hw => ?_)
  obtain ⟨hr1, hr2⟩ := hR.len hw
  have key : ∀ (C P s : List Int) (tm : Option AV), tx u k = P ++ C → T.drop x = P ++ s → Z X 3 [some (aR sc), some (aI (x : Int)), some (aR k), some (aI fu), some (aI (P.length : Int)), tm] [] u 0 0 := by
    intro C
    induction C with
    | nil =>
      intro P s tm h1 h2
      rw [List.append_nil] at h1
      have hl : (tx u k).length = P.length := by rw [h1]
      have hpre : tx u k <+: T.drop x := ⟨s, by rw [h1, h2]⟩
      refine z_iload ho dX10_isBefore_3 rfl ?_
      refine z_aload_n ho dX10_isBefore_5 rfl ?_
      refine gX10_58 ho dX10_isBefore_6 hk.1 ?_
      refine z_icmp_ge (tgt := 74) ho dX10_isBefore_9 (by decide) (by unfold rng; omega) (by unfold rng; omega) (fun c9 => ?_) (fun c9 => ?_)
      · 
        refine z_iload_n ho dX10_isBefore_74 rfl ?_
        refine r_Z ho dX10_isBefore_75 (Nat.le_of_ble_eq_true rfl) (Nat.le_of_ble_eq_true rfl) ?_ ?_
        · omega
        · refine ⟨rfl, ?_⟩
          rcases hfu with z | z
          · right
            refine ⟨z, fun y => ?_⟩
            rcases y with y | y
            · exact pre_nlt hpre y
            · omega
          · left
            exact ⟨z, Or.inr ⟨z, hpre⟩⟩
      · omega
    | cons c C ih =>
      intro P s tm h1 h2
      have hl : (tx u k).length = P.length + (C.length + 1) := by rw [h1]; simp
      have hl2 : T.length - x = P.length + s.length := by have := congrArg List.length h2; simpa using this
      have hcv : iv_ u (k + 1) (P.length : Int) = c := by
        rw [← hk.tx_ch (i := (P.length : Int)) (by omega) (by omega), h1]
        unfold ch; simp
      have hcr := hk.Tx.2 c (by rw [h1]; simp)
      refine z_iload ho dX10_isBefore_3 rfl ?_
      refine z_aload_n ho dX10_isBefore_5 rfl ?_
      refine gX10_58 ho dX10_isBefore_6 hk.1 ?_
      refine z_icmp_ge (tgt := 74) ho dX10_isBefore_9 (by decide) (by unfold rng; omega) (by unfold rng; omega) (fun c9 => ?_) (fun c9 => ?_)
      · omega
      · 
        refine z_iload_n ho dX10_isBefore_12 rfl ?_
        refine z_iload ho dX10_isBefore_13 rfl ?_
        refine z_iadd ho dX10_isBefore_15 ?_
        refine z_aload_n ho dX10_isBefore_16 rfl ?_
        refine kX10_45 ho hN (c_slen _ _ ks hR) dX10_isBefore_17 ks (Nat.le_of_ble_eq_true rfl) (Nat.le_of_ble_eq_true rfl) (Nat.le_of_ble_eq_true rfl) (Nat.le_of_ble_eq_true rfl) (fun x17 u17 h17 => ?_)
        obtain ⟨rfl, rfl⟩ := h17
        refine z_icmp_lt (tgt := 25) ho dX10_isBefore_20 (by decide) (by unfold rng; omega) (by unfold rng; omega) (fun c20 => ?_) (fun c20 => ?_)
        · cases s with
          | nil => simp at hl2; omega
          | cons d s =>
            have hro : rv_ u sc 0 ≠ 0 := fun z => by have := hr1.mp z; rw [this] at c20; simp at c20; omega
            obtain ⟨kr, lr, hRT⟩ := hr2 hro
            have hd : ch T ((x : Int) + (P.length : Int)) = d := by
              unfold ch
              rw [show ((x : Int) + (P.length : Int)).toNat = x + P.length by omega, List.getD_eq_getElem?_getD, ← List.getElem?_drop, h2]
              simp
            have hdr := (RT.chars _ _ _ hRT).1 d (List.mem_of_mem_drop (i := x) (by rw [h2]; simp))
            refine z_aload_n ho dX10_isBefore_25 rfl ?_
            refine gX10_30 ho dX10_isBefore_26 ks ?_
            refine z_iload_n ho dX10_isBefore_29 rfl ?_
            refine z_iload ho dX10_isBefore_30 rfl ?_
            refine z_iadd ho dX10_isBefore_32 ?_
            refine kX10_73 ho hN (c_ropeat _ _ hRT (by omega) (by omega) (by omega)) dX10_isBefore_33 kr (Nat.le_of_ble_eq_true rfl) (Nat.le_of_ble_eq_true rfl) (Nat.le_of_ble_eq_true rfl) (Nat.le_of_ble_eq_true rfl) (fun x33 u33 h33 => ?_)
            obtain ⟨rfl, rfl⟩ := h33
            rw [hd]
            refine z_istore ho dX10_isBefore_36 (Nat.le_of_ble_eq_true rfl) rfl ?_
            refine z_iload ho dX10_isBefore_38 rfl ?_
            refine z_aload_n ho dX10_isBefore_40 rfl ?_
            refine gX10_52 ho dX10_isBefore_41 hk.1 ?_
            rw [hk.2.1]
            refine z_iload ho dX10_isBefore_44 rfl ?_
            refine z_cald ho dX10_isBefore_46 hk.2.2.1 (by omega) (by rw [hk.2.2.2.1]; omega) ?_
            rw [hcv]
            refine z_icmp_eq (tgt := 68) ho dX10_isBefore_47 (by decide) (by unfold rng; omega) (by unfold rng; omega) (fun c47 => ?_) (fun c47 => ?_)
            · subst c47
              refine z_iinc ho dX10_isBefore_68 rfl rfl ?_
              refine z_goto (tgt := 3) ho dX10_isBefore_71 (by decide) ?_
              have := ih (P ++ [d]) s (some (aI d)) (by rw [h1]; simp) (by rw [h2]; simp)
              rw [List.length_append] at this
              exact this
            · 
              refine z_iload ho dX10_isBefore_50 rfl ?_
              refine z_aload_n ho dX10_isBefore_52 rfl ?_
              refine gX10_52 ho dX10_isBefore_53 hk.1 ?_
              rw [hk.2.1]
              refine z_iload ho dX10_isBefore_56 rfl ?_
              refine z_cald ho dX10_isBefore_58 hk.2.2.1 (by omega) (by rw [hk.2.2.2.1]; omega) ?_
              rw [hcv]
              refine z_icmp_ge (tgt := 66) ho dX10_isBefore_59 (by decide) (by unfold rng; omega) (by unfold rng; omega) (fun c59 => ?_) (fun c59 => ?_)
              · 
                refine z_iconst ho dX10_isBefore_66 ?_
                refine r_Z ho dX10_isBefore_67 (Nat.le_of_ble_eq_true rfl) (Nat.le_of_ble_eq_true rfl) ?_ ?_
                · exact Or.inl rfl
                · refine ⟨rfl, Or.inr ⟨rfl, fun y => ?_⟩⟩
                  rw [h1, h2] at y
                  rcases y with y | ⟨-, y⟩
                  · rw [app_ltl, ltc] at y
                    omega
                  · rw [List.prefix_append_right_inj, List.cons_prefix_cons] at y
                    exact c47 y.1.symm
              · 
                refine z_iconst ho dX10_isBefore_62 ?_
                refine z_goto (tgt := 67) ho dX10_isBefore_63 (by decide) ?_
                refine r_Z ho dX10_isBefore_67 (Nat.le_of_ble_eq_true rfl) (Nat.le_of_ble_eq_true rfl) ?_ ?_
                · exact Or.inr rfl
                · refine ⟨rfl, Or.inl ⟨rfl, Or.inl ?_⟩⟩
                  rw [h1, h2, app_ltl, ltc]
                  exact Or.inl c59
        · have hs : s = [] := List.eq_nil_of_length_eq_zero (by omega)
          refine z_iconst ho dX10_isBefore_23 ?_
          refine r_Z ho dX10_isBefore_24 (Nat.le_of_ble_eq_true rfl) (Nat.le_of_ble_eq_true rfl) ?_ ?_
          · exact Or.inr rfl
          · refine ⟨rfl, Or.inl ⟨rfl, Or.inl ?_⟩⟩
            rw [h1, h2, hs, app_ltl]
            exact List.nil_lt_cons c C
  refine z_iconst ho dX10_isBefore_0 ?_
  refine z_istore ho dX10_isBefore_1 (Nat.le_of_ble_eq_true rfl) rfl ?_
  exact key (tx u k) [] (T.drop x) none rfl rfl
theorem c_bound (l : Launch) (u : Mem) {E sc a1 a3 a4 a5 a6 k : Nat} {T : List Int} {fu : Int} (hX : SX u sc a1 a3 a4 a5 a6) (hR : RO E u (rv_ u sc 0) T) (hT : T.length ≤ 120) (hs7 : iv_ u sc 7 = 0 ∨ (iv_ u sc 7 = 1 ∧ SAr T (iv_ u a3) (iv_ u a4) (iv_ u a6))) (hk : Ky u k) (hfu : fu = 0 ∨ fu = 1) :
    Mt_ l yX10_bound cX10_bound 6 (some .int) 4 0 0 [aR sc, aR k, aI fu] u (qI fun r v => (SAr T (iv_ v a3) (iv_ v a4) (iv_ v a6) ∧ Iw u v sc a3 a4 a5 a6 ∧ iv_ v sc 7 = 1) ∧ ∃ (SL : List Nat) (b : Nat), SL.Perm (List.range T.length) ∧ SL.Pairwise (fun x y => T.drop x < T.drop y) ∧ r = (b : Int) ∧ b ≤ T.length ∧ ∀ (q : Nat) x, SL[q]? = some x → (Bf (tx u k) fu (T.drop x) ↔ q < b)) := by
  obtain ⟨n1, n2⟩ := hX.ne
  have hXu := hX
  obtain ⟨⟨ks, r1, r3, r4, r5, r6⟩, ⟨k1, l1⟩, ⟨k3, l3⟩, ⟨k4, l4⟩, ⟨k5, l5⟩, ⟨k6, l6⟩, -⟩ := hX
  refine Mt_of (by decide) (Nat.le_of_ble_eq_true rfl) (fun X ho hX hN hI => ?_)
  subst hX
  show Z X 0 [some (aR sc), some (aR k), some (aI fu), none, none, none] [] u 0 0
  refine z_wf (fun hw => ?_)
  refine z_aload_n ho dX10_bound_0 rfl ?_
  refine kX10_99 ho hN (c_sort _ _ hXu hR hT hs7) dX10_bound_1 ks (by omega) (Nat.le_of_ble_eq_true rfl) (Nat.le_of_ble_eq_true rfl) (Nat.le_of_ble_eq_true rfl) (fun u1 h1 => ?_)
  obtain ⟨hSA, hI, h7⟩ := h1
  have Xv := hXu.iw hI
  have ks' := Xv.1.1
  have Rv : RO E u1 (rv_ u1 sc 0) T := by rw [hI.2.2.1]; exact RO.iw hXu hI hR
  have kkd := hk.kd
  have kkc := hk.2.2.1
  have kkl := hk.2.2.2.1
  have hkv : Ky u1 k ∧ tx u1 k = tx u k := by
    have sm : ∀ a, (kd_ u a = 2 ∨ kd_ u a = 14 ∨ kd_ u a = 101) → Sm u u1 a := fun a ha => ⟨(hI.2.1 a).1, (hI.2.1 a).2, hI.2.2.2.1 a (fun z => by rw [z] at ha; omega) (fun z => by rw [z] at ha; omega) (fun z => by rw [z] at ha; omega) (fun z => by rw [z] at ha; omega) (fun z => by rw [z] at ha; omega), hI.2.2.1 a⟩
    exact hk.same (sm k (by omega)) (sm (k + 1) (by omega))
  have hSA' := hSA
  obtain ⟨SL, ⟨hp, hso, hix⟩, -⟩ := hSA
  have hlen : SL.length = T.length := by have := hp.length_eq; simpa using this
  have mem : ∀ (q : Nat) x, SL[q]? = some x → x < T.length := fun q x hx => List.mem_range.mp (hp.mem_iff.mp (List.mem_of_getElem? hx))
  have dn : ∀ {p q x y : Nat}, SL[p]? = some x → SL[q]? = some y → p ≤ q → Bf (tx u k) fu (T.drop y) → Bf (tx u k) fu (T.drop x) := fun {p q x y} h1 h2 h3 hb => by
    rcases Nat.eq_or_lt_of_le h3 with z | z
    · subst z; rw [h1] at h2; cases h2; exact hb
    · have := List.pairwise_iff_getElem.mp hso p q (List.getElem?_eq_some_iff.mp h1).1 (List.getElem?_eq_some_iff.mp h2).1 z
      rw [(List.getElem?_eq_some_iff.mp h1).2, (List.getElem?_eq_some_iff.mp h2).2] at this
      exact hb.mono this
  have key : ∀ (m lo hi : Nat) (tm : Option AV), hi - lo = m → lo ≤ hi → hi ≤ T.length → (∀ (q : Nat) x, SL[q]? = some x → q < lo → Bf (tx u k) fu (T.drop x)) → (∀ (q : Nat) x, SL[q]? = some x → hi ≤ q → ¬ Bf (tx u k) fu (T.drop x)) → Z X 12 [some (aR sc), some (aR k), some (aI fu), some (aI (lo : Int)), some (aI (hi : Int)), tm] [] u1 0 0 := by
    intro m
    induction m using Nat.strongRecOn with
    | _ m ihm =>
    intro lo hi tm hm hlh hhT hlo hhi
    refine z_iload_n ho dX10_bound_12 rfl ?_
    refine z_iload ho dX10_bound_13 rfl ?_
    refine z_icmp_ge (tgt := 57) ho dX10_bound_15 (by decide) (by unfold rng; omega) (by unfold rng; omega) (fun c15 => ?_) (fun c15 => ?_)
    · 
      refine z_iload_n ho dX10_bound_57 rfl ?_
      refine r_I ho dX10_bound_58 (Nat.le_of_ble_eq_true rfl) (Nat.le_of_ble_eq_true rfl) ?_
      have : lo = hi := by omega
      subst this
      exact ⟨⟨hSA', hI, h7⟩, SL, lo, hp, hso, rfl, hhT, fun q x hx => ⟨fun hb => by
        rcases Nat.lt_or_ge q lo with z | z
        · exact z
        · exact absurd hb (hhi q x hx z), fun z => hlo q x hx z⟩⟩
    · have em : ((lo : Int) + (hi : Int)) / 2 = (((lo + hi) / 2 : Nat) : Int) := by omega
      generalize hmid : (lo + hi) / 2 = mid at em
      have hml : lo ≤ mid ∧ mid < hi := by omega
      have hx : SL[mid]? = some SL[mid] := List.getElem?_eq_getElem (by omega)
      generalize SL[mid] = x at hx
      have hxn := mem mid x hx
      have ex : iv_ u1 a3 (mid : Int) = (x : Int) := (hix mid x hx).1
      refine z_iload_n ho dX10_bound_18 rfl ?_
      refine z_iload ho dX10_bound_19 rfl ?_
      refine z_iadd ho dX10_bound_21 ?_
      refine z_iconst ho dX10_bound_22 ?_
      refine z_idiv ho dX10_bound_23 (by omega) (by omega) (by omega) (by omega) ?_
      rw [em]
      refine z_istore ho dX10_bound_24 (Nat.le_of_ble_eq_true rfl) rfl ?_
      refine z_aload_n ho dX10_bound_26 rfl ?_
      refine z_aload_n ho dX10_bound_27 rfl ?_
      refine gX10_17 ho dX10_bound_28 ks' ?_
      rw [Xv.1.2.2.1]
      refine z_iload ho dX10_bound_31 rfl ?_
      refine z_iald ho dX10_bound_33 (by rw [(hI.2.1 _).1]; exact k3) (by omega) (by rw [(hI.2.1 _).2]; omega) ?_
      rw [ex]
      refine z_aload_n ho dX10_bound_34 rfl ?_
      refine z_iload_n ho dX10_bound_35 rfl ?_
      refine kX10_102 ho hN (c_isBefore _ _ ks' Rv hT hkv.1 (Nat.le_of_lt hxn) hfu) dX10_bound_36 ks' (by omega) (Nat.le_of_ble_eq_true rfl) (Nat.le_of_ble_eq_true rfl) (Nat.le_of_ble_eq_true rfl) (fun x36 u36 h36 => ?_)
      obtain ⟨rfl, hq⟩ := h36
      refine z_if_eq (tgt := 50) ho dX10_bound_39 (by decide) (by rcases hq with ⟨z, -⟩ | ⟨z, -⟩ <;> rw [z] <;> unfold rng <;> omega) (fun c39 => ?_) (fun c39 => ?_)
      · have hnb : ¬ Bf (tx u k) fu (T.drop x) := by
          rw [← hkv.2]
          rcases hq with ⟨z, -⟩ | ⟨-, z⟩
          · omega
          · exact z
        refine z_iload ho dX10_bound_50 rfl ?_
        refine z_istore ho dX10_bound_52 (Nat.le_of_ble_eq_true rfl) rfl ?_
        refine z_goto (tgt := 12) ho dX10_bound_54 (by decide) ?_
        exact ihm (mid - lo) (by omega) lo mid _ rfl (by omega) (by omega) hlo (fun q y hy hqm hb => hnb (dn hx hy hqm hb))
      · have hb : Bf (tx u k) fu (T.drop x) := by
          rw [← hkv.2]
          rcases hq with ⟨-, z⟩ | ⟨z, -⟩
          · exact z
          · exact absurd z c39
        refine z_iload ho dX10_bound_42 rfl ?_
        refine z_iconst ho dX10_bound_44 ?_
        refine z_iadd ho dX10_bound_45 ?_
        refine z_istore_n ho dX10_bound_46 (Nat.le_of_ble_eq_true rfl) rfl ?_
        refine z_goto (tgt := 54) ho dX10_bound_47 (by decide) ?_
        refine z_goto (tgt := 12) ho dX10_bound_54 (by decide) ?_
        have := ihm (hi - (mid + 1)) (by omega) (mid + 1) hi (some (aI (mid : Int))) rfl (by omega) hhT (fun q y hy hqm => dn hy hx (by omega) hb) hhi
        rw [show ((mid + 1 : Nat) : Int) = (mid : Int) + 1 by omega] at this
        exact this
  refine z_iconst ho dX10_bound_4 ?_
  refine z_istore_n ho dX10_bound_5 (Nat.le_of_ble_eq_true rfl) rfl ?_
  refine z_aload_n ho dX10_bound_6 rfl ?_
  refine kX10_45 ho hN (c_slen _ _ ks' Rv) dX10_bound_7 ks' (by omega) (Nat.le_of_ble_eq_true rfl) (Nat.le_of_ble_eq_true rfl) (Nat.le_of_ble_eq_true rfl) (fun x7 u7 h7 => ?_)
  obtain ⟨rfl, rfl⟩ := h7
  refine z_istore ho dX10_bound_10 (Nat.le_of_ble_eq_true rfl) rfl ?_
  exact key T.length 0 T.length none (by omega) (by omega) (Nat.le_refl _) (fun q x _ h => by omega) (fun q x hx h => by have := (List.getElem?_eq_some_iff.mp hx).1; omega)
theorem five_arr (u : Mem) {sc : Nat} (ka : kd_ u sc = 10) (hz : sz_ u = sc + 1) : ∃ u1 u2 u3 u4 u5, wR_ (al_ u 107 20) sc 1 (sc + 1) = u1 ∧ wR_ (al_ u1 100 120) sc 3 (sc + 2) = u2 ∧ wR_ (al_ u2 100 120) sc 4 (sc + 3) = u3 ∧ wR_ (al_ u3 100 120) sc 5 (sc + 4) = u4 ∧ wR_ (al_ u4 100 120) sc 6 (sc + 5) = u5 ∧ (sz_ u1 = sc + 2 ∧ sz_ u2 = sc + 3 ∧ sz_ u3 = sc + 4 ∧ sz_ u4 = sc + 5 ∧ sz_ u5 = sc + 6) ∧ (kd_ u1 sc = 10 ∧ kd_ u2 sc = 10 ∧ kd_ u3 sc = 10 ∧ kd_ u4 sc = 10) ∧ SX u5 sc (sc + 1) (sc + 2) (sc + 3) (sc + 4) (sc + 5) ∧ rv_ u5 sc 0 = rv_ u sc 0 ∧ (∀ i, iv_ u5 sc i = iv_ u sc i) ∧ ∀ a, a < sc → Sm u u5 a := by
  have ne : ∀ {a b : Nat}, a < b → a ≠ b := fun h => Nat.ne_of_lt h
  obtain ⟨u1, e1, z1, s1, k1, q1, r1, o1, i1, -⟩ := na_facts u 107 20 sc 1 (sc + 1) (by omega) hz
  obtain ⟨u2, e2, z2, s2, k2, q2, r2, o2, i2, -⟩ := na_facts u1 100 120 sc 3 (sc + 2) (by omega) z1
  obtain ⟨u3, e3, z3, s3, k3, q3, r3, o3, i3, -⟩ := na_facts u2 100 120 sc 4 (sc + 3) (by omega) z2
  obtain ⟨u4, e4, z4, s4, k4, q4, r4, o4, i4, -⟩ := na_facts u3 100 120 sc 5 (sc + 4) (by omega) z3
  obtain ⟨u5, e5, z5, s5, k5, q5, r5, o5, i5, -⟩ := na_facts u4 100 120 sc 6 (sc + 5) (by omega) z4
  have c1 : kd_ u1 sc = 10 := by rw [q1.1]; exact ka
  have c2 : kd_ u2 sc = 10 := by rw [q2.1]; exact c1
  have c3 : kd_ u3 sc = 10 := by rw [q3.1]; exact c2
  have c4 : kd_ u4 sc = 10 := by rw [q4.1]; exact c3
  have c5 : kd_ u5 sc = 10 := by rw [q5.1]; exact c4
  have g : ∀ {x : Nat}, 0 < x → sc + x ≠ sc := fun h => by omega
  have gg : ∀ {x y : Nat}, x ≠ y → sc + x ≠ sc + y := fun h => by omega
  have t1 : Sm u1 u5 (sc + 1) := (((s2 _ (g (by decide)) (gg (by decide))).tr (s3 _ (g (by decide)) (gg (by decide)))).tr (s4 _ (g (by decide)) (gg (by decide)))).tr (s5 _ (g (by decide)) (gg (by decide)))
  have t2 : Sm u2 u5 (sc + 2) := ((s3 _ (g (by decide)) (gg (by decide))).tr (s4 _ (g (by decide)) (gg (by decide)))).tr (s5 _ (g (by decide)) (gg (by decide)))
  have t3 : Sm u3 u5 (sc + 3) := (s4 _ (g (by decide)) (gg (by decide))).tr (s5 _ (g (by decide)) (gg (by decide)))
  have t4 : Sm u4 u5 (sc + 4) := s5 _ (g (by decide)) (gg (by decide))
  refine ⟨u1, u2, u3, u4, u5, e1, e2, e3, e4, e5, ⟨z1, z2, z3, z4, z5⟩, ⟨c1, c2, c3, c4⟩, ⟨⟨c5, ?_, ?_, ?_, ?_, r5⟩, ⟨by rw [t1.1]; exact k1.1, by rw [t1.2.1]; exact k1.2⟩, ⟨by rw [t2.1]; exact k2.1, by rw [t2.2.1]; exact k2.2⟩, ⟨by rw [t3.1]; exact k3.1, by rw [t3.2.1]; exact k3.2⟩, ⟨by rw [t4.1]; exact k4.1, by rw [t4.2.1]; exact k4.2⟩, k5, gg (by decide), gg (by decide), gg (by decide), gg (by decide), gg (by decide), gg (by decide)⟩, ?_, fun i => ?_, fun a ha => ?_⟩
  · rw [o5 1 (by decide), o4 1 (by decide), o3 1 (by decide), o2 1 (by decide)]; exact r1
  · rw [o5 3 (by decide), o4 3 (by decide), o3 3 (by decide)]; exact r2
  · rw [o5 4 (by decide), o4 4 (by decide)]; exact r3
  · rw [o5 5 (by decide)]; exact r4
  · rw [o5 0 (by decide), o4 0 (by decide), o3 0 (by decide), o2 0 (by decide), o1 0 (by decide)]
  · rw [i5, i4, i3, i2, i1]
  · have w : ∀ x, a ≠ sc + x := fun x => ne (Nat.lt_of_lt_of_le ha (Nat.le_add_right sc x))
    exact ((((s1 a (ne ha) (w 1)).tr (s2 a (ne ha) (w 2))).tr (s3 a (ne ha) (w 3))).tr (s4 a (ne ha) (w 4))).tr (s5 a (ne ha) (w 5))
theorem c_Scroll_init (l : Launch) (u : Mem) {sc : Nat} (ka : kd_ u sc = 10) (hz : sz_ u = sc + 1) (hr : ∀ i, rv_ u sc i = 0) (hi : ∀ i, iv_ u sc i = 0) : Mt_ l yX10_init cX10_init 1 none 1 5 500 [aR sc] u (qV fun v => SX v sc (sc + 1) (sc + 2) (sc + 3) (sc + 4) (sc + 5) ∧ rv_ v sc 0 = 0 ∧ (∀ i, iv_ v sc i = 0) ∧ sz_ v = sc + 6 ∧ ∀ a, a < sc → Sm u v a) := by
  refine Mt_of (by decide) (Nat.le_of_ble_eq_true rfl) (fun X ho hX hN hI => ?_)
  subst hX
  have hin : In_ X := hI rfl
  show Z X 0 [some (aR sc)] [] u 0 0
  refine z_wf (fun hw => ?_)
  have h0 := (hw.1 sc (by omega)).2
  obtain ⟨u1, u2, u3, u4, u5, e1, e2, e3, e4, e5, ⟨z1, z2, z3, z4, z5⟩, ⟨c1, c2, c3, c4⟩, hAX, h6, h7, hsm⟩ := five_arr u ka hz
  have kau : ∀ (w : Mem) (K : Nat) (n : Int) (x : Nat), sz_ w = sc + (x + 1) → kd_ w sc = 10 → kd_ (al_ w K n) sc = 10 := fun w K n x hl hk => by rw [kd_al, if_neg (by omega)]; exact hk
  refine z_aload_n ho dX10_init_0 rfl ?_
  refine kX10_3 ho hN dX10_init_1 h0 (Nat.le_of_ble_eq_true rfl) (Nat.le_of_ble_eq_true rfl) ?_
  refine z_aload_n ho dX10_init_4 rfl ?_
  refine z_bipush ho dX10_init_5 rfl ?_
  refine aX10_9 ho dX10_init_7 (by omega) (by omega) (Nat.le_of_ble_eq_true rfl) (Nat.le_of_ble_eq_true rfl) ?_
  refine pX10_11 ho hin dX10_init_10 (kau _ _ _ 0 hz ka)  ?_
  rw [hz, e1]
  refine z_aload_n ho dX10_init_13 rfl ?_
  refine z_bipush ho dX10_init_14 rfl ?_
  refine na_I ho dX10_init_16 (by omega) (by omega) (Nat.le_of_ble_eq_true rfl) (Nat.le_of_ble_eq_true rfl) ?_
  refine pX10_17 ho hin dX10_init_18 (kau _ _ _ 1 z1 c1)  ?_
  rw [z1, e2]
  refine z_aload_n ho dX10_init_21 rfl ?_
  refine z_bipush ho dX10_init_22 rfl ?_
  refine na_I ho dX10_init_24 (by omega) (by omega) (Nat.le_of_ble_eq_true rfl) (Nat.le_of_ble_eq_true rfl) ?_
  refine pX10_21 ho hin dX10_init_26 (kau _ _ _ 2 z2 c2)  ?_
  rw [z2, e3]
  refine z_aload_n ho dX10_init_29 rfl ?_
  refine z_bipush ho dX10_init_30 rfl ?_
  refine na_I ho dX10_init_32 (by omega) (by omega) (Nat.le_of_ble_eq_true rfl) (Nat.le_of_ble_eq_true rfl) ?_
  refine pX10_24 ho hin dX10_init_34 (kau _ _ _ 3 z3 c3)  ?_
  rw [z3, e4]
  refine z_aload_n ho dX10_init_37 rfl ?_
  refine z_bipush ho dX10_init_38 rfl ?_
  refine na_I ho dX10_init_40 (by omega) (by omega) (Nat.le_of_ble_eq_true rfl) (Nat.le_of_ble_eq_true rfl) ?_
  refine pX10_27 ho hin dX10_init_42 (kau _ _ _ 4 z4 c4)  ?_
  rw [z4, e5]
  refine r_V ho dX10_init_45 (Nat.le_of_ble_eq_true rfl) (Nat.le_of_ble_eq_true rfl) ?_
  exact ⟨hAX, by rw [h6]; exact hr 0, fun i => by rw [h7]; exact hi i, z5, hsm⟩
