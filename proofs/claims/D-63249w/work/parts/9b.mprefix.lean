set_option maxRecDepth 100000
/-! ===== KeyHallModel: samePrefix, follows, endsAt, prefixesOf ===== -/
theorem c_samePrefix (l : Launch) (u : Mem) {m n : Nat} {a b : Int} {s t : List Int} (hm : MF u m) (ha : KT u m a s) (hb : KT u m b t) (hs : n ≤ s.length) (ht : n ≤ t.length) : Mt_ l yX13_samePrefix cX13_samePrefix 4 (some .boolean) 1 0 0 [aR m, aI a, aI b, aI (n : Int)] u (qI fun r v => u = v ∧ qB r (s.take n = t.take n)) := by
  have h1 := ha.2.2.1.take (n := n) hs
  have h2 := hb.2.2.1.take (n := n) ht
  have e1 : (s.take n).length = n := by rw [List.length_take]; omega
  have e2 : (t.take n).length = n := by rw [List.length_take]; omega
  refine Mt_of (by decide) (Nat.le_of_ble_eq_true rfl) (fun X ho hX hN hI => ?_)
  subst hX
  show Z X 0 [some (aR m), some (aI a), some (aI b), some (aI  (n : Int))] [] u 0 0
  have hc := c_order (La_ X) u h1 h2
  rw [e1, e2] at hc
  refine z_aload_n ho dX13_samePrefix_0 rfl ?_
  refine gX13_19 ho dX13_samePrefix_1 hm.1 (mget hm.r5 ?_)
  refine z_bipush ho dX13_samePrefix_4 rfl ?_
  refine z_iload_n ho dX13_samePrefix_6 rfl ?_
  refine z_imul ho dX13_samePrefix_7 ?_
  refine z_iload_n ho dX13_samePrefix_8 rfl ?_
  refine z_aload_n ho dX13_samePrefix_9 rfl ?_
  refine gX13_19 ho dX13_samePrefix_10 hm.1 (mget hm.r5 ?_)
  refine z_bipush ho dX13_samePrefix_13 rfl ?_
  refine z_iload_n ho dX13_samePrefix_15 rfl ?_
  refine z_imul ho dX13_samePrefix_16 ?_
  refine z_iload_n ho dX13_samePrefix_17 rfl ?_
  refine kX13_106 ho hN (hc) dX13_samePrefix_18 (Nat.le_of_ble_eq_true rfl) (Nat.le_of_ble_eq_true rfl) (Nat.le_of_ble_eq_true rfl) (Nat.le_of_ble_eq_true rfl) (fun x18 u18 h18 => ?_)
  obtain ⟨rfl, ho'⟩ := h18
  refine z_if_ne (tgt := 28) ho dX13_samePrefix_21 (by decide) ho'.rg (fun c21 => ?_) (fun c21 => ?_)
  · 
    refine z_iconst ho dX13_samePrefix_28 ?_
    refine r_Z ho dX13_samePrefix_29 (Nat.le_of_ble_eq_true rfl) (Nat.le_of_ble_eq_true rfl) ?_ ?_
    · exact Or.inl rfl
    · exact ⟨rfl, Or.inr ⟨rfl, fun z => c21 (ho'.2.2.mpr z)⟩⟩
  · 
    refine z_iconst ho dX13_samePrefix_24 ?_
    refine z_goto (tgt := 29) ho dX13_samePrefix_25 (by decide) ?_
    refine r_Z ho dX13_samePrefix_29 (Nat.le_of_ble_eq_true rfl) (Nat.le_of_ble_eq_true rfl) ?_ ?_
    · exact Or.inr rfl
    · exact ⟨rfl, Or.inl ⟨rfl, ho'.2.2.mp c21⟩⟩
/-- the prefixes in their arrays: the first key that has it, the text -/
def PrA (u : Mem) (m : Nat) (L : List KV) (base : Int) (PL : List (Nat × List Int)) : Prop := iv_ u m 22 = (PL.length : Int) ∧ PL.length ≤ 400 ∧ ∀ (p : Nat) q, PL[p]? = some q → iv_ u (m + 19) (p : Int) = base + (q.1 : Int) ∧ iv_ u (m + 20) (p : Int) = (q.2.length : Int) ∧ ∃ kv, L[q.1]? = some kv ∧ q.2 <+: kv.1
theorem PrA.cg {m : Nat} {u v : Mem} {fs : List Int} {as : List Nat} {L : List KV} {base : Int} {PL : List (Nat × List Int)} (h : PrA u m L base PL) (c : Cg m u v fs as) (h1 : (22 : Int) ∉ fs) (h2 : ∀ j ∈ [19, 20], j ∉ as) : PrA v m L base PL := by
  unfold PrA
  rw [c.2.1 22 h1, c.2.2 19 (by decide) (h2 19 (by decide)), c.2.2 20 (by decide) (h2 20 (by decide))]
  exact h
theorem pre_tk {s t : List Int} (h : s <+: t) : t.take s.length = s := (List.prefix_iff_eq_take.mp h).symm
theorem c_follows (l : Launch) (u : Mem) {m i a p : Nat} {M : Nat → List KV} {ch : Nat → Int} {PL : List (Nat × List Int)} {qa qp : Nat × List Int} (hm : MF u m) (hM : MM u m M ch) (hi : i < 3) (hP : PrA u m (M i) (64 * (i : Int)) PL) (ha : PL[a]? = some qa) (hp : PL[p]? = some qp) : Mt_ l yX13_follows cX13_follows 3 (some .boolean) 2 0 0 [aR m, aI (a : Int), aI (p : Int)] u (qI fun r v => u = v ∧ qB r (∃ c, qa.2 = qp.2 ++ [c])) := by
  obtain ⟨p1, p2, p3⟩ := hP
  have al := (List.getElem?_eq_some_iff.mp ha).1
  have pl := (List.getElem?_eq_some_iff.mp hp).1
  obtain ⟨a1, a2, kva, a3, a4⟩ := p3 a qa ha
  obtain ⟨b1, b2, kvp, b3, b4⟩ := p3 p qp hp
  have ka := hM.kt hm hi a3
  have kp := hM.kt hm hi b3
  have la := a4.length_le
  have lp := b4.length_le
  have l8 := ka.2.2.2.1
  have l8' := kp.2.2.2.1
  have foll : (∃ c, qa.2 = qp.2 ++ [c]) ↔ qa.2.length = qp.2.length + 1 ∧ kva.1.take qp.2.length = kvp.1.take qp.2.length := by
    rw [pre_tk b4]
    constructor
    · rintro ⟨c, hc⟩
      refine ⟨by rw [hc]; simp, ?_⟩
      have : qp.2 <+: kva.1 := (show qp.2 <+: qa.2 from ⟨[c], hc.symm⟩).trans a4
      exact pre_tk this
    · rintro ⟨h1, h2⟩
      have : qp.2 <+: qa.2 := by
        refine List.prefix_of_prefix_length_le ?_ a4 (by omega)
        rw [← h2]
        exact List.take_prefix _ _
      obtain ⟨w, hw⟩ := this
      have hl := congrArg List.length hw
      rw [List.length_append] at hl
      obtain ⟨c, rfl⟩ := List.length_eq_one_iff.mp (show w.length = 1 by omega)
      exact ⟨c, hw.symm⟩
  refine Mt_of (by decide) (Nat.le_of_ble_eq_true rfl) (fun X ho hX hN hI => ?_)
  subst hX
  show Z X 0 [some (aR m), some (aI  (a : Int)), some (aI  (p : Int))] [] u 0 0
  have no : ¬ (∃ c, qa.2 = qp.2 ++ [c]) → Z X 46 [some (aR m), some (aI (a : Int)), some (aI (p : Int))] [] u 0 0 := fun hn => by
    refine z_iconst ho dX13_follows_46 ?_
    refine r_Z ho dX13_follows_47 (Nat.le_of_ble_eq_true rfl) (Nat.le_of_ble_eq_true rfl) ?_ ?_
    · exact Or.inl rfl
    · exact ⟨rfl, Or.inr ⟨rfl, hn⟩⟩
  refine z_aload_n ho dX13_follows_0 rfl ?_
  refine gX13_72 ho dX13_follows_1 hm.1 (mget hm.r24 ?_)
  refine z_iload_n ho dX13_follows_4 rfl ?_
  refine z_iald ho dX13_follows_5 hm.k20 (by omega) (hm.t20 (by omega)) ?_
  refine z_aload_n ho dX13_follows_6 rfl ?_
  refine gX13_72 ho dX13_follows_7 hm.1 (mget hm.r24 ?_)
  refine z_iload_n ho dX13_follows_10 rfl ?_
  refine z_iald ho dX13_follows_11 hm.k20 (by omega) (hm.t20 (by omega)) ?_
  refine z_iconst ho dX13_follows_12 ?_
  refine z_iadd ho dX13_follows_13 ?_
  refine z_icmp_ne (tgt := 46) ho dX13_follows_14 (by decide) (by rw [a2]; unfold rng; omega) (by rw [b2]; unfold rng; omega) (fun c14 => ?_) (fun c14 => ?_)
  · rw [a2, b2] at c14
    exact no (fun z => by have := (foll.mp z).1; omega)
  · rw [a2, b2] at c14
    refine z_aload_n ho dX13_follows_17 rfl ?_
    refine z_aload_n ho dX13_follows_18 rfl ?_
    refine gX13_69 ho dX13_follows_19 hm.1 (mget hm.r23 ?_)
    refine z_iload_n ho dX13_follows_22 rfl ?_
    refine z_iald ho dX13_follows_23 hm.k19 (by omega) (hm.t19 (by omega)) ?_
    refine z_aload_n ho dX13_follows_24 rfl ?_
    refine gX13_69 ho dX13_follows_25 hm.1 (mget hm.r23 ?_)
    refine z_iload_n ho dX13_follows_28 rfl ?_
    refine z_iald ho dX13_follows_29 hm.k19 (by omega) (hm.t19 (by omega)) ?_
    refine z_aload_n ho dX13_follows_30 rfl ?_
    refine gX13_72 ho dX13_follows_31 hm.1 (mget hm.r24 ?_)
    refine z_iload_n ho dX13_follows_34 rfl ?_
    refine z_iald ho dX13_follows_35 hm.k20 (by omega) (hm.t20 (by omega)) ?_
    rw [a1, b1, b2]
    refine kX13_211 ho hN (c_samePrefix _ _ hm ka kp (by omega) (by omega)) dX13_follows_36 hm.1 (Nat.le_of_ble_eq_true rfl) (Nat.le_of_ble_eq_true rfl) (Nat.le_of_ble_eq_true rfl) (Nat.le_of_ble_eq_true rfl) (fun x36 u36 h36 => ?_)
    obtain ⟨rfl, hb⟩ := h36
    refine z_if_eq (tgt := 46) ho dX13_follows_39 (by decide) (by rcases hb with ⟨z, -⟩ | ⟨z, -⟩ <;> rw [z] <;> unfold rng <;> omega) (fun c39 => ?_) (fun c39 => ?_)
    · exact no (fun z => (hb.resolve_left (fun y => by omega)).2 (foll.mp z).2)
    · 
      refine z_iconst ho dX13_follows_42 ?_
      refine z_goto (tgt := 47) ho dX13_follows_43 (by decide) ?_
      refine r_Z ho dX13_follows_47 (Nat.le_of_ble_eq_true rfl) (Nat.le_of_ble_eq_true rfl) ?_ ?_
      · exact Or.inr rfl
      · exact ⟨rfl, Or.inl ⟨rfl, foll.mpr ⟨by omega, (hb.resolve_right (fun y => c39 y.1)).2⟩⟩⟩
theorem c_endsAt (l : Launch) (u : Mem) {m j p : Nat} {VL : List VS} {vs : VS} {M : Nat → List KV} {ch : Nat → Int} {PL : List (Nat × List Int)} {q : Nat × List Int} {Ks : List (List Int)} (hm : MF u m) (hV : MV u m VL) (hM : MM u m M ch) (hj : VL[j]? = some vs) (hP : PrA u m (M vs.1) (64 * (vs.1 : Int)) PL) (hp : PL[p]? = some q) (hKs : ∀ s, s ∈ Ks ↔ vs.2.1 s ∧ ∃ kv ∈ M vs.1, kv.1 = s) : Mt_ l yX13_endsAt cX13_endsAt 5 (some .boolean) 4 0 0 [aR m, aI (j : Int), aI (p : Int)] u (qI fun r v => u = v ∧ qB r (q.2 ∈ Ks)) := by
  have v3 := (hV.2.2 j vs hj).1
  obtain ⟨g1, g2, g3, g4, -⟩ := hM vs.1 v3
  have pl := (List.getElem?_eq_some_iff.mp hp).1
  obtain ⟨p1, p2, p3⟩ := hP
  obtain ⟨b1, b2, kvp, b3, b4⟩ := p3 p q hp
  have kp := hM.kt hm v3 b3
  have lp := b4.length_le
  have l8 := kp.2.2.2.1
  have hta := kp.2.2.1.take (n := q.2.length) lp
  rw [pre_tk b4] at hta
  refine Mt_of (by decide) (Nat.le_of_ble_eq_true rfl) (fun X ho hX hN hI => ?_)
  subst hX
  show Z X 0 [some (aR m), some (aI  (j : Int)), some (aI  (p : Int)), none, none] [] u 0 0
  have key : ∀ (d k : Nat), d + k = (M vs.1).length → (∀ (i : Nat) kv, i < k → (M vs.1)[i]? = some kv → ¬ (vs.2.1 kv.1 ∧ kv.1 = q.2)) → Z X 9 [some (aR m), some (aI (j : Int)), some (aI (p : Int)), some (aI (vs.1 : Int)), some (aI (k : Int))] [] u 0 0 := by
    intro d
    induction d with
    | zero =>
      intro k hk hno
      refine z_iload ho dX13_endsAt_9 rfl ?_
      refine z_aload_n ho dX13_endsAt_11 rfl ?_
      refine gX13_13 ho dX13_endsAt_12 hm.1 (mget hm.r3 ?_)
      refine z_iload_n ho dX13_endsAt_15 rfl ?_
      refine z_iald ho dX13_endsAt_16 hm.k2 (by omega) (hm.t2 (by omega)) ?_
      refine z_icmp_ge (tgt := 71) ho dX13_endsAt_17 (by decide) (by unfold rng; omega) (by rw [g1]; unfold rng; omega) (fun c17 => ?_) (fun c17 => ?_)
      · 
        refine z_iconst ho dX13_endsAt_71 ?_
        refine r_Z ho dX13_endsAt_72 (Nat.le_of_ble_eq_true rfl) (Nat.le_of_ble_eq_true rfl) ?_ ?_
        · exact Or.inl rfl
        · refine ⟨rfl, Or.inr ⟨rfl, fun z => ?_⟩⟩
          obtain ⟨z1, kv, z2, z3⟩ := (hKs q.2).mp z
          obtain ⟨i, hi, e⟩ := List.mem_iff_getElem.mp z2
          exact hno i kv (by omega) (by rw [List.getElem?_eq_getElem hi, e]) ⟨by rw [z3]; exact z1, z3⟩
      · omega
    | succ d ih =>
      intro k hk hno
      have hkv : (M vs.1)[k]? = some (M vs.1)[k] := List.getElem?_eq_getElem (by omega)
      generalize (M vs.1)[k] = kv at hkv
      obtain ⟨w1, w2, w3, w4, w5, w6⟩ := hM.key hm v3 hkv
      have t65 : ¬ (vs.2.1 kv.1 ∧ kv.1 = q.2) → Z X 65 [some (aR m), some (aI (j : Int)), some (aI (p : Int)), some (aI (vs.1 : Int)), some (aI (k : Int))] [] u 0 0 := fun hn => by
        refine z_iinc ho dX13_endsAt_65 rfl rfl ?_
        refine z_goto (tgt := 9) ho dX13_endsAt_68 (by decide) ?_
        refine ih (k + 1) (by omega) (fun i kv' hi hkv' => ?_)
        rcases lt_or_eq' hi with z | z
        · exact hno i kv' z hkv'
        · rw [z, hkv] at hkv'; cases hkv'; exact hn
      refine z_iload ho dX13_endsAt_9 rfl ?_
      refine z_aload_n ho dX13_endsAt_11 rfl ?_
      refine gX13_13 ho dX13_endsAt_12 hm.1 (mget hm.r3 ?_)
      refine z_iload_n ho dX13_endsAt_15 rfl ?_
      refine z_iald ho dX13_endsAt_16 hm.k2 (by omega) (hm.t2 (by omega)) ?_
      refine z_icmp_ge (tgt := 71) ho dX13_endsAt_17 (by decide) (by unfold rng; omega) (by rw [g1]; unfold rng; omega) (fun c17 => ?_) (fun c17 => ?_)
      · omega
      · 
        refine z_aload_n ho dX13_endsAt_20 rfl ?_
        refine z_iload_n ho dX13_endsAt_21 rfl ?_
        refine z_iload ho dX13_endsAt_22 rfl ?_
        refine kX13_143 ho hN (c_mhas _ _ hm hV hM hj hkv) dX13_endsAt_24 hm.1 (Nat.le_of_ble_eq_true rfl) (Nat.le_of_ble_eq_true rfl) (Nat.le_of_ble_eq_true rfl) (Nat.le_of_ble_eq_true rfl) (fun x24 u24 h24 => ?_)
        obtain ⟨rfl, hh⟩ := h24
        refine z_if_eq (tgt := 65) ho dX13_endsAt_27 (by decide) (by rcases hh with ⟨z, -⟩ | ⟨z, -⟩ <;> rw [z] <;> unfold rng <;> omega) (fun c27 => ?_) (fun c27 => ?_)
        · exact t65 (fun z => (hh.resolve_left (fun y => by omega)).2 z.1)
        · have hR := (hh.resolve_right (fun y => c27 y.1)).2
          refine z_aload_n ho dX13_endsAt_30 rfl ?_
          refine z_bipush ho dX13_endsAt_31 rfl ?_
          refine z_iload_n ho dX13_endsAt_33 rfl ?_
          refine z_imul ho dX13_endsAt_34 ?_
          refine z_iload ho dX13_endsAt_35 rfl ?_
          refine z_iadd ho dX13_endsAt_37 ?_
          refine z_aload_n ho dX13_endsAt_38 rfl ?_
          refine gX13_19 ho dX13_endsAt_39 hm.1 (mget hm.r5 ?_)
          refine z_bipush ho dX13_endsAt_42 rfl ?_
          refine z_aload_n ho dX13_endsAt_44 rfl ?_
          refine gX13_69 ho dX13_endsAt_45 hm.1 (mget hm.r23 ?_)
          refine z_iload_n ho dX13_endsAt_48 rfl ?_
          refine z_iald ho dX13_endsAt_49 hm.k19 (by omega) (hm.t19 (by omega)) ?_
          refine z_imul ho dX13_endsAt_50 ?_
          refine z_aload_n ho dX13_endsAt_51 rfl ?_
          refine gX13_72 ho dX13_endsAt_52 hm.1 (mget hm.r24 ?_)
          refine z_iload_n ho dX13_endsAt_55 rfl ?_
          refine z_iald ho dX13_endsAt_56 hm.k20 (by omega) (hm.t20 (by omega)) ?_
          rw [b1, b2]
          refine kX13_129 ho hN (c_orderOf _ _ hm (by omega) (by omega) w1 w2 hta) dX13_endsAt_57 hm.1 (Nat.le_of_ble_eq_true rfl) (Nat.le_of_ble_eq_true rfl) (Nat.le_of_ble_eq_true rfl) (Nat.le_of_ble_eq_true rfl) (fun x57 u57 h57 => ?_)
          obtain ⟨rfl, hs⟩ := h57
          refine z_if_ne (tgt := 65) ho dX13_endsAt_60 (by decide) hs.rg (fun c60 => ?_) (fun c60 => ?_)
          · exact t65 (fun z => c60 (hs.2.2.mpr z.2))
          · 
            refine z_iconst ho dX13_endsAt_63 ?_
            refine r_Z ho dX13_endsAt_64 (Nat.le_of_ble_eq_true rfl) (Nat.le_of_ble_eq_true rfl) ?_ ?_
            · exact Or.inr rfl
            · exact ⟨rfl, Or.inl ⟨rfl, (hKs q.2).mpr ⟨by rw [← hs.2.2.mp c60]; exact hR, kv, List.mem_of_getElem? hkv, hs.2.2.mp c60⟩⟩⟩
  refine z_aload_n ho dX13_endsAt_0 rfl ?_
  refine z_iload_n ho dX13_endsAt_1 rfl ?_
  refine kX13_114 ho hN (c_mapOf _ _ hm hV hj) dX13_endsAt_2 hm.1 (Nat.le_of_ble_eq_true rfl) (Nat.le_of_ble_eq_true rfl) (Nat.le_of_ble_eq_true rfl) (Nat.le_of_ble_eq_true rfl) (fun x2 u2 h2 => ?_)
  obtain ⟨rfl, rfl⟩ := h2
  refine z_istore_n ho dX13_endsAt_5 (Nat.le_of_ble_eq_true rfl) rfl ?_
  refine z_iconst ho dX13_endsAt_6 ?_
  refine z_istore ho dX13_endsAt_7 (Nat.le_of_ble_eq_true rfl) rfl ?_
  exact key (M vs.1).length 0 rfl (fun i kv hi => by omega)
theorem c_prefixesOf (l : Launch) (u : Mem) {m i k0 : Nat} {jv : Int} {M : Nat → List KV} {ch : Nat → Int} {PL : List (Nat × List Int)} {kv : KV} (hm : MF u m) (hM : MM u m M ch) (hi : i < 3) (hP : PrA u m (M i) (64 * (i : Int)) PL) (hnd : (PL.map Prod.snd).Nodup) (hk : (M i)[k0]? = some kv) (hl : PL.length + 9 ≤ 400) : Mt_ l yX13_prefixesOf cX13_prefixesOf 6 none 2 0 0 [aR m, aI jv, aI (64 * (i : Int) + (k0 : Int))] u (qV fun v => Cg m u v [22] [19, 20] ∧ ∃ PL', PrA v m (M i) (64 * (i : Int)) PL' ∧ (PL'.map Prod.snd).Nodup ∧ (∀ s, s ∈ PL'.map Prod.snd ↔ s ∈ PL.map Prod.snd ∨ s <+: kv.1) ∧ PL'.length ≤ PL.length + 9) := by
  have kk := hM.kt hm hi hk
  have l8 := kk.2.2.2.1
  have k0l := (List.getElem?_eq_some_iff.mp hk).1
  have g3 := (hM i hi).2.2.1
  refine Mt_of (by decide) (Nat.le_of_ble_eq_true rfl) (fun X ho hX hN hI => ?_)
  subst hX
  show Z X 0 [some (aR m), some (aI jv), some (aI  (64 * (i : Int) + (k0 : Int))), none, none, none] [] u 0 0
  have key : ∀ (d n : Nat) (w : Mem) (Q : List (Nat × List Int)), d + n = kv.1.length + 1 → Cg m u w [22] [19, 20] → PrA w m (M i) (64 * (i : Int)) Q → (Q.map Prod.snd).Nodup → (∀ s, s ∈ Q.map Prod.snd ↔ s ∈ PL.map Prod.snd ∨ (s <+: kv.1 ∧ s.length < n)) → Q.length ≤ PL.length + n → Z X 2 [some (aR m), some (aI jv), some (aI (64 * (i : Int) + (k0 : Int))), some (aI (n : Int)), none, none] [] w 0 0 := by
    intro d
    induction d with
    | zero =>
      intro n w Q hn hC hQ hQn hQm hQl
      have hmw := hm.im hC.1
      have lw : iv_ w (m + 5) (64 * (i : Int) + (k0 : Int)) = (kv.1.length : Int) := by rw [hC.2.2 5 (by decide) (by decide)]; exact kk.2.1
      refine z_iload_n ho dX13_prefixesOf_2 rfl ?_
      refine z_aload_n ho dX13_prefixesOf_3 rfl ?_
      refine gX13_22 ho dX13_prefixesOf_4 hmw.1 (mget hmw.r6 ?_)
      refine z_iload_n ho dX13_prefixesOf_7 rfl ?_
      refine z_iald ho dX13_prefixesOf_8 hmw.k5 (by omega) (hmw.t5 (by omega)) ?_
      refine z_icmp_gt (tgt := 116) ho dX13_prefixesOf_9 (by decide) (by unfold rng; omega) (by rw [lw]; unfold rng; omega) (fun c9 => ?_) (fun c9 => ?_)
      · 
        refine r_V ho dX13_prefixesOf_116 (Nat.le_of_ble_eq_true rfl) (Nat.le_of_ble_eq_true rfl) ?_
        refine ⟨hC, Q, hQ, hQn, fun s => ?_, by omega⟩
        rw [hQm s]
        exact ⟨fun z => by rcases z with z | z; (· exact Or.inl z); exact Or.inr z.1, fun z => by rcases z with z | z; (· exact Or.inl z); exact Or.inr ⟨z, by have := z.length_le; omega⟩⟩
      · rw [lw] at c9; omega
    | succ d ih =>
      intro n w Q hn hC hQ hQn hQm hQl
      have hmw := hm.im hC.1
      have hMw := hM.cg hC (by decide)
      have kw := hMw.kt hmw hi hk
      have lw := kw.2.1
      have lt : (kv.1.take n).length = n := by rw [List.length_take]; omega
      have q22 := hQ.1
      have q580 := hQ.2.1
      have nx : ∀ (w2 : Mem) (Q2 : List (Nat × List Int)) (o4 o5 : Option AV), Cg m u w2 [22] [19, 20] → PrA w2 m (M i) (64 * (i : Int)) Q2 → (Q2.map Prod.snd).Nodup → (∀ s, s ∈ Q2.map Prod.snd ↔ s ∈ Q.map Prod.snd ∨ s = kv.1.take n) → Q2.length ≤ Q.length + 1 → Z X 110 [some (aR m), some (aI jv), some (aI (64 * (i : Int) + (k0 : Int))), some (aI (n : Int)), o4, o5] [] w2 0 0 := fun w2 Q2 o4 o5 h1 h2 h3 h4 h5 => by
        refine z_iinc ho dX13_prefixesOf_110 rfl rfl ?_
        refine z_goto (tgt := 2) ho dX13_prefixesOf_113 (by decide) ?_
        refine z_wk ?_ (ih (n + 1) w2 Q2 (by omega) h1 h2 h3 (fun s => ?_) (by omega))
        · exact ⟨rfl, rfl, rfl, rfl, trivial⟩
        · rw [h4 s, hQm s]
          constructor
          · rintro ((z | z) | z)
            · exact Or.inl z
            · exact Or.inr ⟨z.1, by omega⟩
            · rw [z]; exact Or.inr ⟨List.take_prefix _ _, by rw [lt]; omega⟩
          · rintro (z | ⟨z1, z2⟩)
            · exact Or.inl (Or.inl z)
            · rcases lt_or_eq' z2 with y | y
              · exact Or.inl (Or.inr ⟨z1, y⟩)
              · exact Or.inr (by rw [← y, pre_tk z1])
      have inn : ∀ (a p : Nat) (fr : Int), a + p = Q.length → qB fr (∀ (p' : Nat) q, p' < p → Q[p']? = some q → q.2 ≠ kv.1.take n) → Z X 18 [some (aR m), some (aI jv), some (aI (64 * (i : Int) + (k0 : Int))), some (aI (n : Int)), some (aI fr), some (aI (p : Int))] [] w 0 0 := by
        have out : ∀ (p : Nat) (fr : Int), qB fr (∀ q ∈ Q, q.2 ≠ kv.1.take n) → Z X 72 [some (aR m), some (aI jv), some (aI (64 * (i : Int) + (k0 : Int))), some (aI (n : Int)), some (aI fr), some (aI (p : Int))] [] w 0 0 := fun p fr hfr => by
          have rf : rng fr := by rcases hfr with ⟨z, -⟩ | ⟨z, -⟩ <;> rw [z] <;> unfold rng <;> omega
          refine z_iload ho dX13_prefixesOf_72 rfl ?_
          refine z_if_ne (tgt := 80) ho dX13_prefixesOf_74 (by decide) rf (fun c74 => ?_) (fun c74 => ?_)
          · have hfs := (hfr.resolve_right (fun z => c74 z.1)).2
            have e22 : iv_ (wI_ w (m + 19) (Q.length : Int) (64 * (i : Int) + (k0 : Int))) m 22 = (Q.length : Int) := by rw [ivf (by omega)]; exact q22
            have e22' : iv_ (wI_ (wI_ w (m + 19) (Q.length : Int) (64 * (i : Int) + (k0 : Int))) (m + 20) (Q.length : Int) (n : Int)) m 22 = (Q.length : Int) := by rw [ivf (by omega)]; exact e22
            refine z_aload_n ho dX13_prefixesOf_80 rfl ?_
            refine gX13_69 ho dX13_prefixesOf_81 hmw.1 (mget hmw.r23 ?_)
            refine z_aload_n ho dX13_prefixesOf_84 rfl ?_
            refine gX13_193 ho dX13_prefixesOf_85 hmw.1 ?_
            rw [q22]
            refine z_iload_n ho dX13_prefixesOf_88 rfl ?_
            refine z_iast ho dX13_prefixesOf_89 hmw.k19 (by omega) (hmw.t19 (by omega)) ?_
            refine z_aload_n ho dX13_prefixesOf_90 rfl ?_
            refine gX13_72 ho dX13_prefixesOf_91 hmw.1 (mget hmw.r24 ?_)
            refine z_aload_n ho dX13_prefixesOf_94 rfl ?_
            refine gX13_193 ho dX13_prefixesOf_95 hmw.1 ?_
            rw [e22]
            refine z_iload_n ho dX13_prefixesOf_98 rfl ?_
            refine z_iast ho dX13_prefixesOf_99 hmw.k20 (by omega) (hmw.t20 (by omega)) ?_
            refine z_aload_n ho dX13_prefixesOf_100 rfl ?_
            refine z_dup ho dX13_prefixesOf_101 rfl ?_
            refine gX13_193 ho dX13_prefixesOf_102 hmw.1 ?_
            rw [e22']
            refine z_iconst ho dX13_prefixesOf_105 ?_
            refine z_iadd ho dX13_prefixesOf_106 ?_
            refine pX13_193 ho dX13_prefixesOf_107 hmw.1  ?_
            have c2 : Cg m u (wI_ (wI_ (wI_ w (m + 19) (Q.length : Int) (64 * (i : Int) + (k0 : Int))) (m + 20) (Q.length : Int) (n : Int)) m 22 ((Q.length : Int) + 1)) [22] [19, 20] := ((hC.a 19 _ _ (by decide) (by decide) (by decide)).a 20 _ _ (by decide) (by decide) (by decide)).f 22 _ (by decide)
            have x22 : iv_ (wI_ (wI_ (wI_ w (m + 19) (Q.length : Int) (64 * (i : Int) + (k0 : Int))) (m + 20) (Q.length : Int) (n : Int)) m 22 ((Q.length : Int) + 1)) m 22 = (Q.length : Int) + 1 := by rw [iv_wI, if_pos ⟨rfl, rfl⟩]
            have x19 : ∀ j : Int, iv_ (wI_ (wI_ (wI_ w (m + 19) (Q.length : Int) (64 * (i : Int) + (k0 : Int))) (m + 20) (Q.length : Int) (n : Int)) m 22 ((Q.length : Int) + 1)) (m + 19) j = if j = (Q.length : Int) then 64 * (i : Int) + (k0 : Int) else iv_ w (m + 19) j := fun j => by
              rw [ivf (by omega), ivf (by omega), iv_wI]
              by_cases z : j = (Q.length : Int)
              · rw [if_pos ⟨rfl, z⟩, if_pos z]
              · rw [if_neg (fun y => z y.2), if_neg z]
            have x20 : ∀ j : Int, iv_ (wI_ (wI_ (wI_ w (m + 19) (Q.length : Int) (64 * (i : Int) + (k0 : Int))) (m + 20) (Q.length : Int) (n : Int)) m 22 ((Q.length : Int) + 1)) (m + 20) j = if j = (Q.length : Int) then (n : Int) else iv_ w (m + 20) j := fun j => by
              rw [ivf (by omega), iv_wI, ivf (by omega)]
              by_cases z : j = (Q.length : Int)
              · rw [if_pos ⟨rfl, z⟩, if_pos z]
              · rw [if_neg (fun y => z y.2), if_neg z]
            generalize wI_ (wI_ (wI_ w (m + 19) (Q.length : Int) (64 * (i : Int) + (k0 : Int))) (m + 20) (Q.length : Int) (n : Int)) m 22 ((Q.length : Int) + 1) = w2 at *
            refine nx w2 (Q ++ [(k0, kv.1.take n)]) _ _ c2 ⟨by rw [x22, List.length_append]; rfl, by rw [List.length_append]; simp; omega, fun p' q hq => ?_⟩ ?_ (fun s => by rw [List.map_append, List.mem_append]; simp) (by rw [List.length_append]; simp)
            · rw [x19, x20]
              by_cases z : p' < Q.length
              · rw [List.getElem?_append_left z] at hq
                rw [if_neg (by omega), if_neg (by omega)]
                exact hQ.2.2 p' q hq
              · have hpl := (List.getElem?_eq_some_iff.mp hq).1
                rw [List.length_append] at hpl
                simp at hpl
                have hpe : p' = Q.length := by omega
                rw [hpe, List.getElem?_concat_length] at hq
                cases hq
                rw [hpe, if_pos rfl, if_pos rfl]
                exact ⟨rfl, by rw [lt], kv, hk, List.take_prefix _ _⟩
            · rw [List.map_append]
              refine List.nodup_append.mpr ⟨hQn, by simp, fun a ha b hb => ?_⟩
              simp at hb
              obtain ⟨q, hq, rfl⟩ := List.mem_map.mp ha
              rw [hb]
              exact hfs q hq
          · have hnf := (hfr.resolve_left (fun z => by omega)).2
            refine z_goto (tgt := 110) ho dX13_prefixesOf_77 (by decide) ?_
            have hin : kv.1.take n ∈ Q.map Prod.snd := Classical.byContradiction (fun z => hnf (fun q hq e => z (by rw [← e]; exact List.mem_map_of_mem hq)))
            refine nx w Q _ _ hC hQ hQn (fun s => ⟨fun z => Or.inl z, fun z => ?_⟩) (by omega)
            rcases z with z | z
            · exact z
            · rw [z]; exact hin
        intro a
        induction a with
        | zero =>
          intro p fr hp hfr
          have hall : qB fr (∀ q ∈ Q, q.2 ≠ kv.1.take n) := by
            have e : (∀ q ∈ Q, q.2 ≠ kv.1.take n) ↔ (∀ (p' : Nat) q, p' < p → Q[p']? = some q → q.2 ≠ kv.1.take n) := by
              constructor
              · exact fun z p' q _ hq => z q (List.mem_of_getElem? hq)
              · intro z q hq
                obtain ⟨p', hp', e⟩ := List.mem_iff_getElem.mp hq
                exact z p' q (by omega) (by rw [List.getElem?_eq_getElem hp', e])
            unfold qB at hfr ⊢
            rw [e]
            exact hfr
          refine z_iload ho dX13_prefixesOf_18 rfl ?_
          refine z_aload_n ho dX13_prefixesOf_20 rfl ?_
          refine gX13_193 ho dX13_prefixesOf_21 hmw.1 ?_
          refine z_icmp_ge (tgt := 72) ho dX13_prefixesOf_24 (by decide) (by unfold rng; omega) (by rw [q22]; unfold rng; omega) (fun c24 => ?_) (fun c24 => ?_)
          · exact out p fr hall
          · omega
        | succ a iha =>
          intro p fr hp hfr
          have rf : rng fr := by rcases hfr with ⟨z, -⟩ | ⟨z, -⟩ <;> rw [z] <;> unfold rng <;> omega
          have hpq : Q[p]? = some Q[p] := List.getElem?_eq_getElem (by omega)
          generalize Q[p] = q at hpq
          obtain ⟨b1, b2, kvp, b3, b4⟩ := hQ.2.2 p q hpq
          have kp := hMw.kt hmw hi b3
          have l8p := kp.2.2.2.1
          have lq := b4.length_le
          have step : ∀ fr' : Int, fr = 1 → qB fr' (q.2 ≠ kv.1.take n) → Z X 64 [some (aR m), some (aI jv), some (aI (64 * (i : Int) + (k0 : Int))), some (aI (n : Int)), some (aI fr), some (aI (p : Int))] [aI fr'] w 0 0 := fun fr' h1 h2 => by
            have hold := (hfr.resolve_right (fun z => by omega)).2
            refine z_istore ho dX13_prefixesOf_64 (Nat.le_of_ble_eq_true rfl) rfl ?_
            refine z_iinc ho dX13_prefixesOf_66 rfl rfl ?_
            refine z_goto (tgt := 18) ho dX13_prefixesOf_69 (by decide) ?_
            refine iha (p + 1) fr' (by omega) ?_
            rcases h2 with ⟨z1, z2⟩ | ⟨z1, z2⟩
            · refine Or.inl ⟨z1, fun p' q' hp' hq' => ?_⟩
              rcases lt_or_eq' hp' with y | y
              · exact hold p' q' y hq'
              · rw [y, hpq] at hq'; cases hq'; exact z2
            · exact Or.inr ⟨z1, fun y => z2 (y p q (by omega) hpq)⟩
          refine z_iload ho dX13_prefixesOf_18 rfl ?_
          refine z_aload_n ho dX13_prefixesOf_20 rfl ?_
          refine gX13_193 ho dX13_prefixesOf_21 hmw.1 ?_
          refine z_icmp_ge (tgt := 72) ho dX13_prefixesOf_24 (by decide) (by unfold rng; omega) (by rw [q22]; unfold rng; omega) (fun c24 => ?_) (fun c24 => ?_)
          · omega
          · 
            refine z_iload ho dX13_prefixesOf_27 rfl ?_
            refine z_if_eq (tgt := 72) ho dX13_prefixesOf_29 (by decide) rf (fun c29 => ?_) (fun c29 => ?_)
            · have hnf := (hfr.resolve_left (fun z => by omega)).2
              exact out p fr (Or.inr ⟨c29, fun z => hnf (fun p' q' _ hq' => z q' (List.mem_of_getElem? hq'))⟩)
            · have fr1 : fr = 1 := by rcases hfr with z | z; (· exact z.1); exact absurd z.1 c29
              refine z_aload_n ho dX13_prefixesOf_32 rfl ?_
              refine gX13_72 ho dX13_prefixesOf_33 hmw.1 (mget hmw.r24 ?_)
              refine z_iload ho dX13_prefixesOf_36 rfl ?_
              refine z_iald ho dX13_prefixesOf_38 hmw.k20 (by omega) (hmw.t20 (by omega)) ?_
              refine z_iload_n ho dX13_prefixesOf_39 rfl ?_
              refine z_icmp_ne (tgt := 59) ho dX13_prefixesOf_40 (by decide) (by rw [b2]; unfold rng; omega) (by unfold rng; omega) (fun c40 => ?_) (fun c40 => ?_)
              · rw [b2] at c40
                refine z_iconst ho dX13_prefixesOf_59 ?_
                refine z_goto (tgt := 64) ho dX13_prefixesOf_60 (by decide) ?_
                exact step 1 fr1 (Or.inl ⟨rfl, fun z => c40 (by rw [z, lt])⟩)
              · rw [b2] at c40
                have hqn : q.2.length = n := by omega
                refine z_aload_n ho dX13_prefixesOf_43 rfl ?_
                refine z_aload_n ho dX13_prefixesOf_44 rfl ?_
                refine gX13_69 ho dX13_prefixesOf_45 hmw.1 (mget hmw.r23 ?_)
                refine z_iload ho dX13_prefixesOf_48 rfl ?_
                refine z_iald ho dX13_prefixesOf_50 hmw.k19 (by omega) (hmw.t19 (by omega)) ?_
                refine z_iload_n ho dX13_prefixesOf_51 rfl ?_
                refine z_iload_n ho dX13_prefixesOf_52 rfl ?_
                rw [b1]
                refine kX13_211 ho hN (c_samePrefix _ _ hmw kp kw (by omega) (by omega)) dX13_prefixesOf_53 hmw.1 (Nat.le_of_ble_eq_true rfl) (Nat.le_of_ble_eq_true rfl) (Nat.le_of_ble_eq_true rfl) (Nat.le_of_ble_eq_true rfl) (fun x53 u53 h53 => ?_)
                obtain ⟨rfl, hb⟩ := h53
                refine z_if_ne (tgt := 63) ho dX13_prefixesOf_56 (by decide) (by rcases hb with ⟨z, -⟩ | ⟨z, -⟩ <;> rw [z] <;> unfold rng <;> omega) (fun c56 => ?_) (fun c56 => ?_)
                · have he := (hb.resolve_right (fun z => c56 z.1)).2
                  rw [← hqn, pre_tk b4] at he
                  refine z_iconst ho dX13_prefixesOf_63 ?_
                  exact step 0 fr1 (Or.inr ⟨rfl, fun z => z (by rw [he, hqn])⟩)
                · have hne := (hb.resolve_left (fun z => by omega)).2
                  refine z_iconst ho dX13_prefixesOf_59 ?_
                  refine z_goto (tgt := 64) ho dX13_prefixesOf_60 (by decide) ?_
                  exact step 1 fr1 (Or.inl ⟨rfl, fun z => hne (by rw [← z, ← hqn, pre_tk b4])⟩)
      refine z_iload_n ho dX13_prefixesOf_2 rfl ?_
      refine z_aload_n ho dX13_prefixesOf_3 rfl ?_
      refine gX13_22 ho dX13_prefixesOf_4 hmw.1 (mget hmw.r6 ?_)
      refine z_iload_n ho dX13_prefixesOf_7 rfl ?_
      refine z_iald ho dX13_prefixesOf_8 hmw.k5 (by omega) (hmw.t5 (by omega)) ?_
      refine z_icmp_gt (tgt := 116) ho dX13_prefixesOf_9 (by decide) (by unfold rng; omega) (by rw [lw]; unfold rng; omega) (fun c9 => ?_) (fun c9 => ?_)
      · rw [lw] at c9; omega
      · 
        refine z_iconst ho dX13_prefixesOf_12 ?_
        refine z_istore ho dX13_prefixesOf_13 (Nat.le_of_ble_eq_true rfl) rfl ?_
        refine z_iconst ho dX13_prefixesOf_15 ?_
        refine z_istore ho dX13_prefixesOf_16 (Nat.le_of_ble_eq_true rfl) rfl ?_
        exact inn Q.length 0 1 rfl (Or.inl ⟨rfl, fun p' q hp' => by omega⟩)
  refine z_iconst ho dX13_prefixesOf_0 ?_
  refine z_istore_n ho dX13_prefixesOf_1 (Nat.le_of_ble_eq_true rfl) rfl ?_
  exact key (kv.1.length + 1) 0 u PL rfl (Cg.rf m u _ _) hP hnd (fun s => ⟨fun z => Or.inl z, fun z => by rcases z with z | z; (· exact z); omega⟩) (by omega)
