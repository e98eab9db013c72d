set_option maxRecDepth 100000
/-! ===== KeyHallModel: longest, tell, find, at, poll ===== -/
def Lb_ (P : List Int → Prop) (L : List KV) (base : Int) (k : Nat) (b : Int) : Prop := (b = -1 ∧ ∀ (j : Nat) p, j < k → L[j]? = some p → ¬ P p.1) ∨ (∃ (j : Nat) (p : KV), j < k ∧ L[j]? = some p ∧ b = base + (j : Int) ∧ P p.1 ∧ ∀ (j' : Nat) p', j' < k → L[j']? = some p' → P p'.1 → p'.1.length ≤ p.1.length)
theorem Lb_.skip {P : List Int → Prop} {L : List KV} {base b : Int} {k : Nat} {p : KV} (h : Lb_ P L base k b) (hk : L[k]? = some p) (hn : ¬ P p.1) : Lb_ P L base (k + 1) b := by
  rcases h with ⟨h1, h2⟩ | ⟨j, pj, h1, h2, h3, h4, h5⟩
  · refine Or.inl ⟨h1, fun j q hj hq => ?_⟩
    rcases lt_or_eq' hj with z | z
    · exact h2 j q z hq
    · rw [z, hk] at hq; cases hq; exact hn
  · refine Or.inr ⟨j, pj, by omega, h2, h3, h4, fun j' q hj hq hP => ?_⟩
    rcases lt_or_eq' hj with z | z
    · exact h5 j' q z hq hP
    · rw [z, hk] at hq; cases hq; exact absurd hP hn
theorem Lb_.take {P : List Int → Prop} {L : List KV} {base b : Int} {k : Nat} {p : KV} (h : Lb_ P L base k b) (hk : L[k]? = some p) (hP : P p.1) (hb : b = -1 ∨ ∃ (j : Nat) (pj : KV), L[j]? = some pj ∧ b = base + (j : Int) ∧ pj.1.length < p.1.length) (hbase : 0 ≤ base) : Lb_ P L base (k + 1) (base + (k : Int)) := by
  refine Or.inr ⟨k, p, by omega, hk, rfl, hP, fun j' q hj hq hPq => ?_⟩
  rcases lt_or_eq' hj with z | z
  · rcases h with ⟨h1, h2⟩ | ⟨j, pj, h1, h2, h3, h4, h5⟩
    · exact absurd hPq (h2 j' q z hq)
    · rcases hb with y | ⟨j2, pj2, y1, y2, y3⟩
      · omega
      · have : j2 = j := by omega
        subst this
        rw [h2] at y1
        cases y1
        have := h5 j' q z hq hPq
        omega
  · rw [z, hk] at hq; cases hq; exact Nat.le_refl _
theorem Lb_.keep {P : List Int → Prop} {L : List KV} {base : Int} {k j : Nat} {p pj : KV} (h : Lb_ P L base k (base + (j : Int))) (hk : L[k]? = some p) (hj : L[j]? = some pj) (hn : p.1.length ≤ pj.1.length) (hbase : 0 ≤ base) : Lb_ P L base (k + 1) (base + (j : Int)) := by
  rcases h with ⟨h1, h2⟩ | ⟨j2, pj2, h1, h2, h3, h4, h5⟩
  · omega
  · have : j2 = j := by omega
    subst this
    rw [hj] at h2
    cases h2
    refine Or.inr ⟨j2, pj, by omega, hj, rfl, h4, fun j' q hj' hq hPq => ?_⟩
    rcases lt_or_eq' hj' with z | z
    · exact h5 j' q z hq hPq
    · rw [z, hk] at hq; cases hq; exact hn
theorem Lb_.fin {R : List Int → Prop} {tp : List Int} {L : List KV} {base b : Int} {q : Option KV} (h : Lb_ (fun s => R s ∧ s <+: tp) L base L.length b) (hnd : (L.map Prod.fst).Nodup) (hq : Lgst R tp L q) : isK L base b q := by
  rcases h with ⟨h1, h2⟩ | ⟨j, pj, h1, h2, h3, h4, h5⟩
  · refine Or.inl ⟨?_, h1⟩
    rcases hq with z | ⟨p, -, z1, z2, z3, -⟩
    · exact z.1
    · obtain ⟨i, hi, hip⟩ := List.mem_iff_getElem.mp z1
      exact absurd ⟨z2, z3⟩ (h2 i p hi (by rw [List.getElem?_eq_getElem hi, hip]))
  · rcases hq with ⟨-, z⟩ | ⟨p, z0, z1, z2, z3, z4⟩
    · exact absurd h4.2 (z pj (List.mem_of_getElem? h2) h4.1)
    · obtain ⟨i, hi, hip⟩ := List.mem_iff_getElem.mp z1
      have hi' : L[i]? = some p := by rw [List.getElem?_eq_getElem hi, hip]
      have l1 := h5 i p hi hi' ⟨z2, z3⟩
      have l2 := z4 pj (List.mem_of_getElem? h2) h4.1 h4.2
      have he : pj.1 = p.1 := (List.prefix_of_prefix_length_le h4.2 z3 l2).eq_of_length (by omega)
      have hij : i = j := by
        have l1 : i < (L.map Prod.fst).length := by rw [List.length_map]; exact hi
        refine (List.getElem?_inj l1 hnd).mp ?_
        rw [List.getElem?_map, List.getElem?_map, hi', h2]
        simp [he]
      subst hij
      exact Or.inr ⟨i, p, z0, hi', h3⟩
theorem c_longest (l : Launch) (u : Mem) {m j : Nat} {VL : List VS} {vs : VS} {M : Nat → List KV} {ch : Nat → Int} {tp : List Int} {q : Option KV} (hm : MF u m) (hV : MV u m VL) (hK : MM u m M ch) (hj : VL[j]? = some vs) (ht : TA u (m + 1) 0 tp) (hLg : Lgst vs.2.1 tp (M vs.1) q) :
    Mt_ l yX13_longest cX13_longest 8 (some .int) 4 0 0 [aR m, aI (j : Int), aI tp.length] u (qI fun r w => u = w ∧ isK (M vs.1) (64 * (vs.1 : Int)) r q) := by
  have v3 := (hV.2.2 j vs hj).1
  obtain ⟨g1, g2, g3, g4, -⟩ := hK vs.1 v3
  refine Mt_of (by decide) (Nat.le_of_ble_eq_true rfl) (fun X ho hX hN hI => ?_)
  subst hX
  show Z X 0 [some (aR m), some (aI  (j : Int)), some (aI tp.length), none, none, none, none, none] [] u 0 0
  have key : ∀ (d k : Nat) (bst : Int), d + k = (M vs.1).length → Lb_ (fun s => vs.2.1 s ∧ s <+: tp) (M vs.1) (64 * (vs.1 : Int)) k bst → Z X 12 [some (aR m), some (aI (j : Int)), some (aI tp.length), some (aI (vs.1 : Int)), some (aI bst), some (aI (k : Int)), none, none] [] u 0 0 := by
    intro d
    induction d with
    | zero =>
      intro k bst hk hB
      refine z_iload ho dX13_longest_12 rfl ?_
      refine z_aload_n ho dX13_longest_14 rfl ?_
      refine gX13_13 ho dX13_longest_15 hm.1 (mget hm.r3 ?_)
      refine z_iload_n ho dX13_longest_18 rfl ?_
      refine z_iald ho dX13_longest_19 hm.k2 (by omega) (hm.t2 (by omega)) ?_
      refine z_icmp_ge (tgt := 115) ho dX13_longest_20 (by decide) (by unfold rng; omega) (by rw [g1]; unfold rng; omega) (fun c20 => ?_) (fun c20 => ?_)
      · 
        refine z_iload ho dX13_longest_115 rfl ?_
        refine r_I ho dX13_longest_117 (Nat.le_of_ble_eq_true rfl) (Nat.le_of_ble_eq_true rfl) ?_
        have hkl : k = (M vs.1).length := by omega
        rw [hkl] at hB
        exact ⟨rfl, hB.fin g4 hLg⟩
      · omega
    | succ d ih =>
      intro k bst hk hB
      have hkp : (M vs.1)[k]? = some (M vs.1)[k] := List.getElem?_eq_getElem (by omega)
      generalize (M vs.1)[k] = p at hkp
      obtain ⟨q1, q2, q3, q4, q5, q6⟩ := hK.key hm v3 hkp
      have l8 := q4.1
      have t109 : ∀ (b2 : Int) (o7 : Option AV), Lb_ (fun s => vs.2.1 s ∧ s <+: tp) (M vs.1) (64 * (vs.1 : Int)) (k + 1) b2 → Z X 109 [some (aR m), some (aI (j : Int)), some (aI tp.length), some (aI (vs.1 : Int)), some (aI b2), some (aI (k : Int)), some (aI (64 * (vs.1 : Int) + (k : Int))), o7] [] u 0 0 := fun b2 o7 h2 => by
        refine z_iinc ho dX13_longest_109 rfl rfl ?_
        refine z_goto (tgt := 12) ho dX13_longest_112 (by decide) ?_
        refine z_wk ?_ (ih (k + 1) b2 (by omega) h2)
        exact ⟨rfl, rfl, rfl, rfl, rfl, rfl, trivial⟩
      have t75 : ∀ b : Int, qB b (vs.2.1 p.1 ∧ p.1 <+: tp) → Z X 75 [some (aR m), some (aI (j : Int)), some (aI tp.length), some (aI (vs.1 : Int)), some (aI bst), some (aI (k : Int)), some (aI (64 * (vs.1 : Int) + (k : Int))), none] [aI b] u 0 0 := fun b hb => by
        refine z_istore ho dX13_longest_75 (Nat.le_of_ble_eq_true rfl) rfl ?_
        refine z_iload ho dX13_longest_77 rfl ?_
        refine z_if_eq (tgt := 109) ho dX13_longest_79 (by decide) (by rcases hb with ⟨z, -⟩ | ⟨z, -⟩ <;> rw [z] <;> unfold rng <;> omega) (fun c79 => ?_) (fun c79 => ?_)
        · exact t109 _ _ (hB.skip hkp (hb.resolve_left (fun z => by omega)).2)
        · have hP := (hb.resolve_right (fun z => c79 z.1)).2
          rcases hB with ⟨z, z'⟩ | ⟨j2, p2, z1, z2, z3, z4, z5⟩
          · subst z
            refine z_iload ho dX13_longest_82 rfl ?_
            refine z_iconst ho dX13_longest_84 ?_
            refine z_icmp_eq (tgt := 105) ho dX13_longest_85 (by decide) (by unfold rng; omega) (by unfold rng; omega) (fun c85 => ?_) (fun c85 => ?_)
            · 
              refine z_iload ho dX13_longest_105 rfl ?_
              refine z_istore ho dX13_longest_107 (Nat.le_of_ble_eq_true rfl) rfl ?_
              exact t109 _ _ (Lb_.take (Or.inl ⟨rfl, z'⟩) hkp hP (Or.inl rfl) (by omega))
            · exact absurd rfl c85
          · subst z3
            obtain ⟨w1, w2, w3, w4, w5, w6⟩ := hK.key hm v3 z2
            have l8' := w4.1
            have hB' : Lb_ (fun s => vs.2.1 s ∧ s <+: tp) (M vs.1) (64 * (vs.1 : Int)) k (64 * (vs.1 : Int) + (j2 : Int)) := Or.inr ⟨j2, p2, z1, z2, rfl, z4, z5⟩
            refine z_iload ho dX13_longest_82 rfl ?_
            refine z_iconst ho dX13_longest_84 ?_
            refine z_icmp_eq (tgt := 105) ho dX13_longest_85 (by decide) (by unfold rng; omega) (by unfold rng; omega) (fun c85 => ?_) (fun c85 => ?_)
            · omega
            · 
              refine z_aload_n ho dX13_longest_88 rfl ?_
              refine gX13_22 ho dX13_longest_89 hm.1 (mget hm.r6 ?_)
              refine z_iload ho dX13_longest_92 rfl ?_
              refine z_iald ho dX13_longest_94 hm.k5 (by omega) (hm.t5 (by omega)) ?_
              refine z_aload_n ho dX13_longest_95 rfl ?_
              refine gX13_22 ho dX13_longest_96 hm.1 (mget hm.r6 ?_)
              refine z_iload ho dX13_longest_99 rfl ?_
              refine z_iald ho dX13_longest_101 hm.k5 (by omega) (hm.t5 (by omega)) ?_
              refine z_icmp_le (tgt := 109) ho dX13_longest_102 (by decide) (by rw [q1]; unfold rng; omega) (by rw [w1]; unfold rng; omega) (fun c102 => ?_) (fun c102 => ?_)
              · rw [q1, w1] at c102
                exact t109 _ _ (hB'.keep hkp z2 (by omega) (by omega))
              · rw [q1, w1] at c102
                refine z_iload ho dX13_longest_105 rfl ?_
                refine z_istore ho dX13_longest_107 (Nat.le_of_ble_eq_true rfl) rfl ?_
                exact t109 _ _ (hB'.take hkp hP (Or.inr ⟨j2, p2, z2, rfl, by omega⟩) (by omega))
      refine z_iload ho dX13_longest_12 rfl ?_
      refine z_aload_n ho dX13_longest_14 rfl ?_
      refine gX13_13 ho dX13_longest_15 hm.1 (mget hm.r3 ?_)
      refine z_iload_n ho dX13_longest_18 rfl ?_
      refine z_iald ho dX13_longest_19 hm.k2 (by omega) (hm.t2 (by omega)) ?_
      refine z_icmp_ge (tgt := 115) ho dX13_longest_20 (by decide) (by unfold rng; omega) (by rw [g1]; unfold rng; omega) (fun c20 => ?_) (fun c20 => ?_)
      · omega
      · 
        refine z_bipush ho dX13_longest_23 rfl ?_
        refine z_iload_n ho dX13_longest_25 rfl ?_
        refine z_imul ho dX13_longest_26 ?_
        refine z_iload ho dX13_longest_27 rfl ?_
        refine z_iadd ho dX13_longest_29 ?_
        refine z_istore ho dX13_longest_30 (Nat.le_of_ble_eq_true rfl) rfl ?_
        refine z_aload_n ho dX13_longest_32 rfl ?_
        refine z_iload_n ho dX13_longest_33 rfl ?_
        refine z_iload ho dX13_longest_34 rfl ?_
        refine kX13_143 ho hN (c_mhas _ _ hm hV hK hj hkp) dX13_longest_36 hm.1 (Nat.le_of_ble_eq_true rfl) (Nat.le_of_ble_eq_true rfl) (Nat.le_of_ble_eq_true rfl) (Nat.le_of_ble_eq_true rfl) (fun x36 u36 h36 => ?_)
        obtain ⟨rfl, hh⟩ := h36
        refine z_if_eq (tgt := 74) ho dX13_longest_39 (by decide) (by rcases hh with ⟨z, -⟩ | ⟨z, -⟩ <;> rw [z] <;> unfold rng <;> omega) (fun c39 => ?_) (fun c39 => ?_)
        · 
          refine z_iconst ho dX13_longest_74 ?_
          exact t75 0 (Or.inr ⟨rfl, fun z => (hh.resolve_left (fun z => by omega)).2 z.1⟩)
        · have hR := (hh.resolve_right (fun z => c39 z.1)).2
          refine z_aload_n ho dX13_longest_42 rfl ?_
          refine gX13_7 ho dX13_longest_43 hm.1 (mget hm.r1 ?_)
          refine z_iconst ho dX13_longest_46 ?_
          refine z_iload_n ho dX13_longest_47 rfl ?_
          refine z_aload_n ho dX13_longest_48 rfl ?_
          refine gX13_19 ho dX13_longest_49 hm.1 (mget hm.r5 ?_)
          refine z_bipush ho dX13_longest_52 rfl ?_
          refine z_iload ho dX13_longest_54 rfl ?_
          refine z_imul ho dX13_longest_56 ?_
          refine z_aload_n ho dX13_longest_57 rfl ?_
          refine gX13_22 ho dX13_longest_58 hm.1 (mget hm.r6 ?_)
          refine z_iload ho dX13_longest_61 rfl ?_
          refine z_iald ho dX13_longest_63 hm.k5 (by omega) (hm.t5 (by omega)) ?_
          rw [q1]
          refine kX13_110 ho hN (c_begins _ _ ht q2) dX13_longest_64 (Nat.le_of_ble_eq_true rfl) (Nat.le_of_ble_eq_true rfl) (Nat.le_of_ble_eq_true rfl) (Nat.le_of_ble_eq_true rfl) (fun x64 u64 h64 => ?_)
          obtain ⟨rfl, hb⟩ := h64
          refine z_if_eq (tgt := 74) ho dX13_longest_67 (by decide) (by rcases hb with ⟨z, -⟩ | ⟨z, -⟩ <;> rw [z] <;> unfold rng <;> omega) (fun c67 => ?_) (fun c67 => ?_)
          · 
            refine z_iconst ho dX13_longest_74 ?_
            exact t75 0 (Or.inr ⟨rfl, fun z => (hb.resolve_left (fun z => by omega)).2 z.2⟩)
          · 
            refine z_iconst ho dX13_longest_70 ?_
            refine z_goto (tgt := 75) ho dX13_longest_71 (by decide) ?_
            exact t75 1 (Or.inl ⟨rfl, hR, (hb.resolve_right (fun z => c67 z.1)).2⟩)
  refine z_aload_n ho dX13_longest_0 rfl ?_
  refine z_iload_n ho dX13_longest_1 rfl ?_
  refine kX13_114 ho hN (c_mapOf _ _ hm hV hj) dX13_longest_2 hm.1 (Nat.le_of_ble_eq_true rfl) (Nat.le_of_ble_eq_true rfl) (Nat.le_of_ble_eq_true rfl) (Nat.le_of_ble_eq_true rfl) (fun x2 u2 h2 => ?_)
  obtain ⟨rfl, rfl⟩ := h2
  refine z_istore_n ho dX13_longest_5 (Nat.le_of_ble_eq_true rfl) rfl ?_
  refine z_iconst ho dX13_longest_6 ?_
  refine z_istore ho dX13_longest_7 (Nat.le_of_ble_eq_true rfl) rfl ?_
  refine z_iconst ho dX13_longest_9 ?_
  refine z_istore ho dX13_longest_10 (Nat.le_of_ble_eq_true rfl) rfl ?_
  exact key (M vs.1).length 0 (-1) rfl (Or.inl ⟨rfl, fun j p hj => by omega⟩)
/-- found becomes a key -/
theorem c_mtell (l : Launch) (u : Mem) {m N i : Nat} {e r : Int} {tp fd : List Int} {M : Nat → List KV} {ch : Nat → Int} {VL : List VS} {Ks : List (List Int)} {T : List Int} {Os : List (List Int)} {q : Option KV} (h : MS u m N tp fd M ch VL Ks T Os) (hi : i < 3) (hr : isK (M i) (64 * (i : Int)) r q) : Mt_ l yX13_tell cX13_tell 4 (some .int) 1 0 0 [aR m, aI r, aI e] u (qI fun x v => (q = none ∧ x = 0 ∧ qM m N u e tp fd M ch VL Ks T Os v) ∨ (∃ p, q = some p ∧ x = p.2 ∧ qM m N u 0 tp p.1 M ch VL Ks T Os v ∧ Cg m u v [0, 20] [17])) := by
  have hm := h.1
  refine Mt_of (by decide) (Nat.le_of_ble_eq_true rfl) (fun X ho hX hN hI => ?_)
  subst hX
  show Z X 0 [some (aR m), some (aI r), some (aI e), none] [] u 0 0
  rcases hr with ⟨z1, z2⟩ | ⟨k, p, z1, z2, z3⟩
  · subst z2
    refine z_iload_n ho dX13_tell_0 rfl ?_
    refine z_iconst ho dX13_tell_1 ?_
    refine z_icmp_ne (tgt := 11) ho dX13_tell_2 (by decide) (by unfold rng; omega) (by unfold rng; omega) (fun c2 => ?_) (fun c2 => ?_)
    · exact absurd rfl c2
    · 
      refine z_aload_n ho dX13_tell_5 rfl ?_
      refine z_iload_n ho dX13_tell_6 rfl ?_
      refine kX13_126 ho hN (c_raise _ _ hm) dX13_tell_7 hm.1 (Nat.le_of_ble_eq_true rfl) (Nat.le_of_ble_eq_true rfl) (Nat.le_of_ble_eq_true rfl) (Nat.le_of_ble_eq_true rfl) (fun x7 u7 h7 => ?_)
      obtain ⟨rfl, rfl⟩ := h7
      refine r_I ho dX13_tell_10 (Nat.le_of_ble_eq_true rfl) (Nat.le_of_ble_eq_true rfl) ?_
      exact Or.inl ⟨z1, rfl, qM_raise h⟩
  · subst z3
    obtain ⟨q1, q2, q3, q4, q5, q6⟩ := h.2.2.2.1.key hm hi z2
    have l8 := q4.1
    have e5 : iv_ (wI_ u m 0 0) (m + 5) (64 * (i : Int) + (k : Int)) = (p.1.length : Int) := by rw [ivf (by omega)]; exact q1
    refine z_iload_n ho dX13_tell_0 rfl ?_
    refine z_iconst ho dX13_tell_1 ?_
    refine z_icmp_ne (tgt := 11) ho dX13_tell_2 (by decide) (by unfold rng; omega) (by unfold rng; omega) (fun c2 => ?_) (fun c2 => ?_)
    · 
      refine z_aload_n ho dX13_tell_11 rfl ?_
      refine z_iconst ho dX13_tell_12 ?_
      refine pX13_99 ho dX13_tell_13 hm.1  ?_
      refine z_aload_n ho dX13_tell_16 rfl ?_
      refine z_aload_n ho dX13_tell_17 rfl ?_
      refine gX13_22 ho dX13_tell_18 hm.1 (mget hm.r6 ?_)
      refine z_iload_n ho dX13_tell_21 rfl ?_
      refine z_iald ho dX13_tell_22 hm.k5 (by omega) (hm.t5 (by omega)) ?_
      rw [e5]
      refine pX13_154 ho dX13_tell_23 hm.1  ?_
      refine z_iconst ho dX13_tell_26 ?_
      refine z_istore_n ho dX13_tell_27 (Nat.le_of_ble_eq_true rfl) rfl ?_
      have c1 : Cg m u (wI_ (wI_ u m 0 0) m 20 (p.1.length : Int)) [0, 20] [17] := ((Cg.rf m u _ _).f 0 0 (by decide)).f 20 _ (by decide)
      have x4 : iv_ (wI_ (wI_ u m 0 0) m 20 (p.1.length : Int)) (m + 4) = iv_ u (m + 4) := by rw [ivf (by omega), ivf (by omega)]
      have x20 : iv_ (wI_ (wI_ u m 0 0) m 20 (p.1.length : Int)) m 20 = (p.1.length : Int) := by rw [iv_wI, if_pos ⟨rfl, rfl⟩]
      have x0 : iv_ (wI_ (wI_ u m 0 0) m 20 (p.1.length : Int)) m 0 = 0 := by rw [iv_wI, if_neg (by omega), iv_wI, if_pos ⟨rfl, rfl⟩]
      generalize wI_ (wI_ u m 0 0) m 20 (p.1.length : Int) = w1 at *
      have key : ∀ (d n : Nat), d + n = p.1.length → Z X 28 [some (aR m), some (aI (64 * (i : Int) + (k : Int))), some (aI e), some (aI (n : Int))] [] (cpA w1 (m + 17) (m + 4) 0 (8 * (64 * (i : Int) + (k : Int))) n) 0 0 := by
        intro d
        induction d with
        | zero =>
          intro n hn
          have hnl : n = p.1.length := by omega
          have c2 : Cg m u (cpA w1 (m + 17) (m + 4) 0 (8 * (64 * (i : Int) + (k : Int))) n) [0, 20] [17] := cpA_cg c1 (by decide) (by decide) (by decide)
          have t4 := cpA_sub (u := w1) (a := m + 17) (b := m + 4) (d := 0) (s := 8 * (64 * (i : Int) + (k : Int))) (t := p.1) (by rw [x4]; exact q2.2.2.2.1)
          rw [← hnl] at t4
          have oth : ∀ c, c ≠ m + 17 → iv_ (cpA w1 (m + 17) (m + 4) 0 (8 * (64 * (i : Int) + (k : Int))) n) c = iv_ w1 c := fun c hc => cpA_o hc
          generalize cpA w1 (m + 17) (m + 4) 0 (8 * (64 * (i : Int) + (k : Int))) n = w2 at *
          have hm2 := hm.im c2.1
          have y20 : iv_ w2 m 20 = (p.1.length : Int) := by rw [oth _ (by omega)]; exact x20
          refine z_iload_n ho dX13_tell_28 rfl ?_
          refine z_aload_n ho dX13_tell_29 rfl ?_
          refine gX13_154 ho dX13_tell_30 hm2.1 ?_
          refine z_icmp_ge (tgt := 59) ho dX13_tell_33 (by decide) (by unfold rng; omega) (by rw [y20]; unfold rng; omega) (fun c33 => ?_) (fun c33 => ?_)
          · 
            refine z_aload_n ho dX13_tell_59 rfl ?_
            refine gX13_25 ho dX13_tell_60 hm2.1 (mget hm2.r7 ?_)
            refine z_iload_n ho dX13_tell_63 rfl ?_
            refine z_iald ho dX13_tell_64 hm2.k6 (by omega) (hm2.t6 (by omega)) ?_
            refine r_I ho dX13_tell_65 (Nat.le_of_ble_eq_true rfl) (Nat.le_of_ble_eq_true rfl) ?_
            obtain ⟨b1, b2, b3, b4, b5, b6, b7, b8, b9⟩ := h
            have e6 : iv_ w2 (m + 6) (64 * (i : Int) + (k : Int)) = p.2 := by rw [c2.2.2 6 (by decide) (by decide)]; exact q3
            exact Or.inr ⟨p, z1, e6, ⟨c2.1, by rw [oth _ (by omega)]; exact x0, hm2, b2.cg c2 (by decide) (by decide), ⟨y20, by rw [hnl] at t4; exact t4, q4⟩, b4.cg c2 (by decide), b5.cg c2 (by decide) (by decide), b6.cg c2 (by decide), b7.cg c2 (by decide) (by decide), b8.cg c2 (by decide) (by decide), b9⟩, c2⟩
          · omega
        | succ d ih =>
          intro n hn
          have nx := ih (n + 1) (by omega)
          obtain ⟨s1, s2⟩ := cpA_s (u := w1) (a := m + 17) (b := m + 4) (d := 0) (s := 8 * (64 * (i : Int) + (k : Int))) (by omega) n
          rw [Int.zero_add] at s2
          have hmw := hm.im c1.1
          have hm2 : MF (cpA w1 (m + 17) (m + 4) 0 (8 * (64 * (i : Int) + (k : Int))) n) m := hmw
          have y20 : iv_ (cpA w1 (m + 17) (m + 4) 0 (8 * (64 * (i : Int) + (k : Int))) n) m 20 = (p.1.length : Int) := by rw [cpA_o (by omega)]; exact x20
          refine z_iload_n ho dX13_tell_28 rfl ?_
          refine z_aload_n ho dX13_tell_29 rfl ?_
          refine gX13_154 ho dX13_tell_30 hm2.1 ?_
          refine z_icmp_ge (tgt := 59) ho dX13_tell_33 (by decide) (by unfold rng; omega) (by rw [y20]; unfold rng; omega) (fun c33 => ?_) (fun c33 => ?_)
          · omega
          · 
            refine z_aload_n ho dX13_tell_36 rfl ?_
            refine gX13_63 ho dX13_tell_37 hm2.1 (mget hm2.r19 ?_)
            refine z_iload_n ho dX13_tell_40 rfl ?_
            refine z_aload_n ho dX13_tell_41 rfl ?_
            refine gX13_19 ho dX13_tell_42 hm2.1 (mget hm2.r5 ?_)
            refine z_bipush ho dX13_tell_45 rfl ?_
            refine z_iload_n ho dX13_tell_47 rfl ?_
            refine z_imul ho dX13_tell_48 ?_
            refine z_iload_n ho dX13_tell_49 rfl ?_
            refine z_iadd ho dX13_tell_50 ?_
            refine z_iald ho dX13_tell_51 hm2.k4 (by omega) (hm2.t4 (by omega)) ?_
            refine z_iast ho dX13_tell_52 hm2.k17 (by omega) (hm2.t17 (by omega)) ?_
            refine z_iinc ho dX13_tell_53 rfl rfl ?_
            refine z_goto (tgt := 28) ho dX13_tell_56 (by decide) ?_
            rw [s1, s2]
            exact nx
      have k0 := key p.1.length 0 rfl
      rw [show ((0 : Nat) : Int) = 0 from rfl, cpA_0] at k0
      exact k0
    · omega
theorem c_mfind (l : Launch) (u : Mem) {m N : Nat} {i how : Int} {tp fd : List Int} {M : Nat → List KV} {ch : Nat → Int} {VL : List VS} {Ks : List (List Int)} {T : List Int} {Os : List (List Int)} {Q0 : VS → Option KV} (h : MS u m N tp fd M ch VL Ks T Os) (ri : rng i) (rh : rng how) (hq : ∀ vs, 0 ≤ i → VL[i.toNat]? = some vs → 0 ≤ how → how < 7 → FindS vs how tp (M vs.1) (Q0 vs)) :
    Mt_ l yX13_find cX13_find 4 (some .int) 5 0 0 [aR m, aI i, aI how] u (qI fun r v => ((¬ (0 ≤ i ∧ i < VL.length) ∨ ¬ (0 ≤ how ∧ how < 7)) ∧ qM m N u 1 tp fd M ch VL Ks T Os v) ∨ (∃ vs, 0 ≤ i ∧ VL[i.toNat]? = some vs ∧ 0 ≤ how ∧ how < 7 ∧ ((Q0 vs = none ∧ qM m N u 2 [] fd M ch VL Ks T Os v) ∨ (∃ p, Q0 vs = some p ∧ r = p.2 ∧ qM m N u 0 [] p.1 M ch VL Ks T Os v)))) := by
  have hm := h.1
  have h8 := h.2.2.2.2.1.1
  have h12 := h.2.2.2.2.1.2.1
  refine Mt_of (by decide) (Nat.le_of_ble_eq_true rfl) (fun X ho hX hN hI => ?_)
  subst hX
  show Z X 0 [some (aR m), some (aI i), some (aI how), none] [] u 0 0
  have bad : (¬ (0 ≤ i ∧ i < (VL.length : Int)) ∨ ¬ (0 ≤ how ∧ how < 7)) → Z X 18 [some (aR m), some (aI i), some (aI how), none] [] u 0 0 := fun hb => by
    refine z_aload_n ho dX13_find_18 rfl ?_
    refine z_iconst ho dX13_find_19 ?_
    refine kX13_126 ho hN (c_raise _ _ hm) dX13_find_20 hm.1 (Nat.le_of_ble_eq_true rfl) (Nat.le_of_ble_eq_true rfl) (Nat.le_of_ble_eq_true rfl) (Nat.le_of_ble_eq_true rfl) (fun x20 u20 h20 => ?_)
    obtain ⟨rfl, rfl⟩ := h20
    refine r_I ho dX13_find_23 (Nat.le_of_ble_eq_true rfl) (Nat.le_of_ble_eq_true rfl) ?_
    exact Or.inl ⟨hb, qM_raise h⟩
  refine z_aload_n ho dX13_find_0 rfl ?_
  refine z_iload_n ho dX13_find_1 rfl ?_
  refine kX13_122 ho hN (c_isView _ _ hm h8 h12 ri) dX13_find_2 hm.1 (Nat.le_of_ble_eq_true rfl) (Nat.le_of_ble_eq_true rfl) (Nat.le_of_ble_eq_true rfl) (Nat.le_of_ble_eq_true rfl) (fun x2 u2 h2 => ?_)
  obtain ⟨rfl, hs⟩ := h2
  refine z_if_eq (tgt := 18) ho dX13_find_5 (by decide) (by rcases hs with ⟨z, -⟩ | ⟨z, -⟩ <;> rw [z] <;> unfold rng <;> omega) (fun c5 => ?_) (fun c5 => ?_)
  · exact bad (Or.inl (hs.resolve_left (fun z => by omega)).2)
  · have hin := (hs.resolve_right (fun z => c5 z.1)).2
    refine z_iload_n ho dX13_find_8 rfl ?_
    refine z_if_lt (tgt := 18) ho dX13_find_9 (by decide) rh (fun c9 => ?_) (fun c9 => ?_)
    · exact bad (Or.inr (by omega))
    · 
      refine z_iload_n ho dX13_find_12 rfl ?_
      refine z_bipush ho dX13_find_13 rfl ?_
      refine z_icmp_le (tgt := 24) ho dX13_find_15 (by decide) rh (by unfold rng; omega) (fun c15 => ?_) (fun c15 => ?_)
      · have hvs : VL[i.toNat]? = some VL[i.toNat] := List.getElem?_eq_getElem (by omega)
        generalize VL[i.toNat] = vs at hvs
        have ei : (i.toNat : Int) = i := Int.toNat_of_nonneg hin.1
        have v3 := (h.2.2.2.2.1.2.2 _ vs hvs).1
        have hf := hq vs hin.1 hvs (by omega) (by omega)
        have h2 := h.2.1.1
        have H0 := h.cgt (v := wI_ u m 2 0) ((Cg.rf m u _ _).f 2 0 (by decide)) (by rw [iv_wI, if_pos ⟨rfl, rfl⟩])
        have ta : TA (wI_ u m 2 0) (m + 1) 0 tp := by
          obtain ⟨q1, q2, q3, q4, q5, q6⟩ := h.2.1.ta hm
          exact ⟨q1, q2, q3, by rw [ivf (by omega)]; exact q4, q5, q6⟩
        have I0 : Im m u (wI_ u m 2 0) := (Im.rf m u).w0 2 0
        have fin : ∀ (x : Int) (v : Mem), ((Q0 vs = none ∧ x = 0 ∧ qM m N (wI_ u m 2 0) 2 [] fd M ch VL Ks T Os v) ∨ (∃ p, Q0 vs = some p ∧ x = p.2 ∧ qM m N (wI_ u m 2 0) 0 [] p.1 M ch VL Ks T Os v ∧ Cg m (wI_ u m 2 0) v [0, 20] [17])) → ((¬ (0 ≤ i ∧ i < (VL.length : Int)) ∨ ¬ (0 ≤ how ∧ how < 7)) ∧ qM m N u 1 tp fd M ch VL Ks T Os v) ∨ (∃ vs, 0 ≤ i ∧ VL[i.toNat]? = some vs ∧ 0 ≤ how ∧ how < 7 ∧ ((Q0 vs = none ∧ qM m N u 2 [] fd M ch VL Ks T Os v) ∨ (∃ p, Q0 vs = some p ∧ x = p.2 ∧ qM m N u 0 [] p.1 M ch VL Ks T Os v))) := fun x v hx => by
          refine Or.inr ⟨vs, hin.1, hvs, by omega, by omega, ?_⟩
          rcases hx with ⟨z1, -, z2⟩ | ⟨p, z1, z2, z3, -⟩
          · exact Or.inl ⟨z1, I0.tr z2.1, z2.2⟩
          · exact Or.inr ⟨p, z1, z2, I0.tr z3.1, z3.2⟩
        have near : ∀ (bh sm at_ mm : Int) (b : Nat) (o : Option (List Int)), (bh = 0 ∨ bh = 1) → (sm = 0 ∨ sm = 1) → TxO (wI_ u m 2 0) b at_ mm o → Nr (if bh = 1 then vs.2.2.1 else 1 - vs.2.2.1) vs.2.1 o (1 - sm) (M vs.1) (Q0 vs) → Mt_ (La_ X) yX13_nearest cX13_nearest 13 (some .int) 4 0 0 [aR m, aI i, aI bh, aI sm, aR b, aI at_, aI mm] (wI_ u m 2 0) (qI fun r w => wI_ u m 2 0 = w ∧ isK (M vs.1) (64 * (vs.1 : Int)) r (Q0 vs)) := fun bh sm at_ mm b o y1 y2 y3 y4 => by
          have := c_mnear (La_ X) (wI_ u m 2 0) hm H0.2.2.2.2.1 H0.2.2.2.1 hvs y1 y2 y3 y4
          rw [ei] at this
          exact this
        refine z_aload_n ho dX13_find_24 rfl ?_
        refine gX13_102 ho dX13_find_25 hm.1 ?_
        refine z_istore_n ho dX13_find_28 (Nat.le_of_ble_eq_true rfl) rfl ?_
        rw [h2]
        refine z_aload_n ho dX13_find_29 rfl ?_
        refine z_iconst ho dX13_find_30 ?_
        refine pX13_102 ho dX13_find_31 hm.1  ?_
        rcases hf with ⟨z, hNr⟩ | ⟨z, hNr⟩ | ⟨z, hNr⟩ | ⟨z, hNr⟩ | ⟨z, hNr⟩
        · 
          refine z_iload_n ho dX13_find_34 rfl ?_
          refine z_tswIn (tgt := 72) (off := 37) ho dX13_find_35 rh (by omega) (by omega) (by rcases z with z | z <;> rw [z] <;> rfl) (by decide) ?_
          refine z_aload_n ho dX13_find_72 rfl ?_
          refine z_aload_n ho dX13_find_73 rfl ?_
          refine z_iload_n ho dX13_find_74 rfl ?_
          refine z_iconst ho dX13_find_75 ?_
          refine z_iload_n ho dX13_find_76 rfl ?_
          refine z_if_ne (tgt := 84) ho dX13_find_77 (by decide) rh (fun c77 => ?_) (fun c77 => ?_)
          · 
            refine z_iconst ho dX13_find_84 ?_
            refine z_aload_n ho dX13_find_85 rfl ?_
            refine gX13_7 ho dX13_find_86 hm.1 (mget hm.r1 ?_)
            refine z_iconst ho dX13_find_89 ?_
            refine z_iload_n ho dX13_find_90 rfl ?_
            refine kX13_157 ho hN (near 0 0 0 tp.length (m + 1) (some tp) (Or.inl rfl) (Or.inl rfl) (Or.inr ⟨tp, rfl, ta, rfl⟩) (by rw [if_neg (by decide), show (1 : Int) - 0 = how by omega]; exact hNr)) dX13_find_91 hm.1 (Nat.le_of_ble_eq_true rfl) (Nat.le_of_ble_eq_true rfl) (Nat.le_of_ble_eq_true rfl) (Nat.le_of_ble_eq_true rfl) (fun x91 u91 h91 => ?_)
            obtain ⟨rfl, hk⟩ := h91
            refine z_iconst ho dX13_find_94 ?_
            refine kX13_161 ho hN (c_mtell _ _ H0 v3 hk) dX13_find_95 hm.1 (Nat.le_of_ble_eq_true rfl) (Nat.le_of_ble_eq_true rfl) (Nat.le_of_ble_eq_true rfl) (Nat.le_of_ble_eq_true rfl) (fun x95 u95 h95 => ?_)
            refine r_I ho dX13_find_98 (Nat.le_of_ble_eq_true rfl) (Nat.le_of_ble_eq_true rfl) ?_
            exact fin _ _ h95
          · 
            refine z_iconst ho dX13_find_80 ?_
            refine z_goto (tgt := 85) ho dX13_find_81 (by decide) ?_
            refine z_aload_n ho dX13_find_85 rfl ?_
            refine gX13_7 ho dX13_find_86 hm.1 (mget hm.r1 ?_)
            refine z_iconst ho dX13_find_89 ?_
            refine z_iload_n ho dX13_find_90 rfl ?_
            refine kX13_157 ho hN (near 0 1 0 tp.length (m + 1) (some tp) (Or.inl rfl) (Or.inr rfl) (Or.inr ⟨tp, rfl, ta, rfl⟩) (by rw [if_neg (by decide), show (1 : Int) - 1 = how by omega]; exact hNr)) dX13_find_91 hm.1 (Nat.le_of_ble_eq_true rfl) (Nat.le_of_ble_eq_true rfl) (Nat.le_of_ble_eq_true rfl) (Nat.le_of_ble_eq_true rfl) (fun x91 u91 h91 => ?_)
            obtain ⟨rfl, hk⟩ := h91
            refine z_iconst ho dX13_find_94 ?_
            refine kX13_161 ho hN (c_mtell _ _ H0 v3 hk) dX13_find_95 hm.1 (Nat.le_of_ble_eq_true rfl) (Nat.le_of_ble_eq_true rfl) (Nat.le_of_ble_eq_true rfl) (Nat.le_of_ble_eq_true rfl) (fun x95 u95 h95 => ?_)
            refine r_I ho dX13_find_98 (Nat.le_of_ble_eq_true rfl) (Nat.le_of_ble_eq_true rfl) ?_
            exact fin _ _ h95
        · 
          refine z_iload_n ho dX13_find_34 rfl ?_
          refine z_tswIn (tgt := 99) (off := 64) ho dX13_find_35 rh (by omega) (by omega) (by rcases z with z | z <;> rw [z] <;> rfl) (by decide) ?_
          refine z_aload_n ho dX13_find_99 rfl ?_
          refine z_aload_n ho dX13_find_100 rfl ?_
          refine z_iload_n ho dX13_find_101 rfl ?_
          refine z_iconst ho dX13_find_102 ?_
          refine z_iload_n ho dX13_find_103 rfl ?_
          refine z_iconst ho dX13_find_104 ?_
          refine z_icmp_ne (tgt := 112) ho dX13_find_105 (by decide) rh (by unfold rng; omega) (fun c105 => ?_) (fun c105 => ?_)
          · 
            refine z_iconst ho dX13_find_112 ?_
            refine z_aload_n ho dX13_find_113 rfl ?_
            refine gX13_7 ho dX13_find_114 hm.1 (mget hm.r1 ?_)
            refine z_iconst ho dX13_find_117 ?_
            refine z_iload_n ho dX13_find_118 rfl ?_
            refine kX13_157 ho hN (near 1 0 0 tp.length (m + 1) (some tp) (Or.inr rfl) (Or.inl rfl) (Or.inr ⟨tp, rfl, ta, rfl⟩) (by rw [if_pos rfl, show (1 : Int) - 0 = how - 2 by omega]; exact hNr)) dX13_find_119 hm.1 (Nat.le_of_ble_eq_true rfl) (Nat.le_of_ble_eq_true rfl) (Nat.le_of_ble_eq_true rfl) (Nat.le_of_ble_eq_true rfl) (fun x119 u119 h119 => ?_)
            obtain ⟨rfl, hk⟩ := h119
            refine z_iconst ho dX13_find_122 ?_
            refine kX13_161 ho hN (c_mtell _ _ H0 v3 hk) dX13_find_123 hm.1 (Nat.le_of_ble_eq_true rfl) (Nat.le_of_ble_eq_true rfl) (Nat.le_of_ble_eq_true rfl) (Nat.le_of_ble_eq_true rfl) (fun x123 u123 h123 => ?_)
            refine r_I ho dX13_find_126 (Nat.le_of_ble_eq_true rfl) (Nat.le_of_ble_eq_true rfl) ?_
            exact fin _ _ h123
          · 
            refine z_iconst ho dX13_find_108 ?_
            refine z_goto (tgt := 113) ho dX13_find_109 (by decide) ?_
            refine z_aload_n ho dX13_find_113 rfl ?_
            refine gX13_7 ho dX13_find_114 hm.1 (mget hm.r1 ?_)
            refine z_iconst ho dX13_find_117 ?_
            refine z_iload_n ho dX13_find_118 rfl ?_
            refine kX13_157 ho hN (near 1 1 0 tp.length (m + 1) (some tp) (Or.inr rfl) (Or.inr rfl) (Or.inr ⟨tp, rfl, ta, rfl⟩) (by rw [if_pos rfl, show (1 : Int) - 1 = how - 2 by omega]; exact hNr)) dX13_find_119 hm.1 (Nat.le_of_ble_eq_true rfl) (Nat.le_of_ble_eq_true rfl) (Nat.le_of_ble_eq_true rfl) (Nat.le_of_ble_eq_true rfl) (fun x119 u119 h119 => ?_)
            obtain ⟨rfl, hk⟩ := h119
            refine z_iconst ho dX13_find_122 ?_
            refine kX13_161 ho hN (c_mtell _ _ H0 v3 hk) dX13_find_123 hm.1 (Nat.le_of_ble_eq_true rfl) (Nat.le_of_ble_eq_true rfl) (Nat.le_of_ble_eq_true rfl) (Nat.le_of_ble_eq_true rfl) (fun x123 u123 h123 => ?_)
            refine r_I ho dX13_find_126 (Nat.le_of_ble_eq_true rfl) (Nat.le_of_ble_eq_true rfl) ?_
            exact fin _ _ h123
        · subst z
          refine z_iload_n ho dX13_find_34 rfl ?_
          refine z_tswIn (tgt := 127) (off := 92) ho dX13_find_35 rh (by omega) (by omega) rfl (by decide) ?_
          refine z_aload_n ho dX13_find_127 rfl ?_
          refine z_aload_n ho dX13_find_128 rfl ?_
          refine z_iload_n ho dX13_find_129 rfl ?_
          refine z_iload_n ho dX13_find_130 rfl ?_
          refine z_iconst ho dX13_find_131 ?_
          refine z_icmp_ne (tgt := 139) ho dX13_find_132 (by decide) (by unfold rng; omega) (by unfold rng; omega) (fun c132 => ?_) (fun c132 => ?_)
          · exact absurd rfl c132
          · 
            refine z_iconst ho dX13_find_135 ?_
            refine z_goto (tgt := 140) ho dX13_find_136 (by decide) ?_
            refine z_iconst ho dX13_find_140 ?_
            refine z_aload_n ho dX13_find_141 rfl ?_
            refine gX13_7 ho dX13_find_142 hm.1 (mget hm.r1 ?_)
            refine z_iconst ho dX13_find_145 ?_
            refine z_iconst ho dX13_find_146 ?_
            refine kX13_157 ho hN (near 1 1 0 (-1) (m + 1) none (Or.inr rfl) (Or.inr rfl) (Or.inl ⟨rfl, rfl⟩) (by rw [if_pos rfl]; exact hNr)) dX13_find_147 hm.1 (Nat.le_of_ble_eq_true rfl) (Nat.le_of_ble_eq_true rfl) (Nat.le_of_ble_eq_true rfl) (Nat.le_of_ble_eq_true rfl) (fun x147 u147 h147 => ?_)
            obtain ⟨rfl, hk⟩ := h147
            refine z_iconst ho dX13_find_150 ?_
            refine kX13_161 ho hN (c_mtell _ _ H0 v3 hk) dX13_find_151 hm.1 (Nat.le_of_ble_eq_true rfl) (Nat.le_of_ble_eq_true rfl) (Nat.le_of_ble_eq_true rfl) (Nat.le_of_ble_eq_true rfl) (fun x151 u151 h151 => ?_)
            refine r_I ho dX13_find_154 (Nat.le_of_ble_eq_true rfl) (Nat.le_of_ble_eq_true rfl) ?_
            exact fin _ _ h151
        · subst z
          refine z_iload_n ho dX13_find_34 rfl ?_
          refine z_tswIn (tgt := 127) (off := 92) ho dX13_find_35 rh (by omega) (by omega) rfl (by decide) ?_
          refine z_aload_n ho dX13_find_127 rfl ?_
          refine z_aload_n ho dX13_find_128 rfl ?_
          refine z_iload_n ho dX13_find_129 rfl ?_
          refine z_iload_n ho dX13_find_130 rfl ?_
          refine z_iconst ho dX13_find_131 ?_
          refine z_icmp_ne (tgt := 139) ho dX13_find_132 (by decide) (by unfold rng; omega) (by unfold rng; omega) (fun c132 => ?_) (fun c132 => ?_)
          · 
            refine z_iconst ho dX13_find_139 ?_
            refine z_iconst ho dX13_find_140 ?_
            refine z_aload_n ho dX13_find_141 rfl ?_
            refine gX13_7 ho dX13_find_142 hm.1 (mget hm.r1 ?_)
            refine z_iconst ho dX13_find_145 ?_
            refine z_iconst ho dX13_find_146 ?_
            refine kX13_157 ho hN (near 0 1 0 (-1) (m + 1) none (Or.inl rfl) (Or.inr rfl) (Or.inl ⟨rfl, rfl⟩) (by rw [if_neg (by decide)]; exact hNr)) dX13_find_147 hm.1 (Nat.le_of_ble_eq_true rfl) (Nat.le_of_ble_eq_true rfl) (Nat.le_of_ble_eq_true rfl) (Nat.le_of_ble_eq_true rfl) (fun x147 u147 h147 => ?_)
            obtain ⟨rfl, hk⟩ := h147
            refine z_iconst ho dX13_find_150 ?_
            refine kX13_161 ho hN (c_mtell _ _ H0 v3 hk) dX13_find_151 hm.1 (Nat.le_of_ble_eq_true rfl) (Nat.le_of_ble_eq_true rfl) (Nat.le_of_ble_eq_true rfl) (Nat.le_of_ble_eq_true rfl) (fun x151 u151 h151 => ?_)
            refine r_I ho dX13_find_154 (Nat.le_of_ble_eq_true rfl) (Nat.le_of_ble_eq_true rfl) ?_
            exact fin _ _ h151
          · exact absurd c132 (by decide)
        · subst z
          have hlo := c_longest (La_ X) (wI_ u m 2 0) hm H0.2.2.2.2.1 H0.2.2.2.1 hvs ta hNr
          rw [ei] at hlo
          refine z_iload_n ho dX13_find_34 rfl ?_
          refine z_tswOut (tgt := 155) ho dX13_find_35 rh (Or.inr (by omega)) (by decide) ?_
          refine z_aload_n ho dX13_find_155 rfl ?_
          refine z_aload_n ho dX13_find_156 rfl ?_
          refine z_iload_n ho dX13_find_157 rfl ?_
          refine z_iload_n ho dX13_find_158 rfl ?_
          refine kX13_165 ho hN (hlo) dX13_find_159 hm.1 (Nat.le_of_ble_eq_true rfl) (Nat.le_of_ble_eq_true rfl) (Nat.le_of_ble_eq_true rfl) (Nat.le_of_ble_eq_true rfl) (fun x159 u159 h159 => ?_)
          obtain ⟨rfl, hk⟩ := h159
          refine z_iconst ho dX13_find_162 ?_
          refine kX13_161 ho hN (c_mtell _ _ H0 v3 hk) dX13_find_163 hm.1 (Nat.le_of_ble_eq_true rfl) (Nat.le_of_ble_eq_true rfl) (Nat.le_of_ble_eq_true rfl) (Nat.le_of_ble_eq_true rfl) (fun x163 u163 h163 => ?_)
          refine r_I ho dX13_find_166 (Nat.le_of_ble_eq_true rfl) (Nat.le_of_ble_eq_true rfl) ?_
          exact fin _ _ h163
      · exact bad (Or.inr (by omega))
