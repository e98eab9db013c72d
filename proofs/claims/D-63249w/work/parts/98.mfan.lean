set_option maxRecDepth 100000
/-! ===== KeyHallModel: sameBytes, fan, inner, edges ===== -/
theorem oc_at {s : List Int} {i : Nat} (h : i < 2 * s.length) : (ocL s)[i]? = some (octL s (i : Int)) := by
  have := ocL_get s (i : Int) (by omega) (by omega)
  rwa [Int.toNat_natCast] at this
theorem octL_r {s : List Int} (hs : Tx s) {i : Nat} (h : i < 2 * s.length) : 0 ≤ octL s (i : Int) ∧ octL s (i : Int) < 256 := ocL_rng hs _ (List.mem_of_getElem? (oc_at h))
theorem c_same (l : Launch) (u : Mem) {m n : Nat} {a b : Int} {s t : List Int} (hm : MF u m) (ha : KT u m a s) (hb : KT u m b t) (hn : n ≤ 2 * s.length) : Mt_ l yX13_sameBytes cX13_sameBytes 5 (some .boolean) 1 0 0 [aR m, aI a, aI b, aI (n : Int)] u (qI fun r v => u = v ∧ qB r ((ocL s).take n <+: ocL t)) := by
  have s8 := ha.2.2.2.1
  have t8 := hb.2.2.2.1
  have lb := hb.2.1
  obtain ⟨⟨b0, b1⟩, -⟩ := hb.1 |> fun x => (⟨x, trivial⟩ : (0 ≤ b ∧ b < 192) ∧ True)
  have ls := ocL_len s
  have lt := ocL_len t
  have pre : (ocL s).take n <+: ocL t ↔ n ≤ 2 * t.length ∧ ∀ j : Nat, j < n → octL s (j : Int) = octL t (j : Int) := by
    constructor
    · rintro ⟨w, hw⟩
      have hl : ((ocL s).take n).length = n := by rw [List.length_take, ls]; omega
      have hn2 : n ≤ 2 * t.length := by have := congrArg List.length hw; rw [List.length_append, hl, lt] at this; omega
      refine ⟨hn2, fun j hj => ?_⟩
      have e := congrArg (fun l => l[j]?) hw
      simp only [List.getElem?_append_left (show j < ((ocL s).take n).length by omega), List.getElem?_take, if_pos hj, oc_at (show j < 2 * s.length by omega), oc_at (show j < 2 * t.length by omega)] at e
      exact Option.some.inj e
    · rintro ⟨h1, h2⟩
      refine List.prefix_iff_eq_take.mpr ?_
      have hl : ((ocL s).take n).length = n := by rw [List.length_take, ls]; omega
      rw [hl]
      apply List.ext_getElem?
      intro j
      rw [List.getElem?_take, List.getElem?_take]
      by_cases hj : j < n
      · rw [if_pos hj, if_pos hj, oc_at (by omega), oc_at (by omega), h2 j hj]
      · rw [if_neg hj, if_neg hj]
  refine Mt_of (by decide) (Nat.le_of_ble_eq_true rfl) (fun X ho hX hN hI => ?_)
  subst hX
  show Z X 0 [some (aR m), some (aI a), some (aI b), some (aI  (n : Int)), none] [] u 0 0
  have key : n ≤ 2 * t.length → ∀ (d i : Nat), d + i = n → (∀ j : Nat, j < i → octL s (j : Int) = octL t (j : Int)) → Z X 17 [some (aR m), some (aI a), some (aI b), some (aI (n : Int)), some (aI (i : Int))] [] u 0 0 := by
    intro h2 d
    induction d with
    | zero =>
      intro i hi he
      refine z_iload ho dX13_sameBytes_17 rfl ?_
      refine z_iload_n ho dX13_sameBytes_19 rfl ?_
      refine z_icmp_ge (tgt := 48) ho dX13_sameBytes_20 (by decide) (by unfold rng; omega) (by unfold rng; omega) (fun c20 => ?_) (fun c20 => ?_)
      · 
        refine z_iconst ho dX13_sameBytes_48 ?_
        refine r_Z ho dX13_sameBytes_49 (Nat.le_of_ble_eq_true rfl) (Nat.le_of_ble_eq_true rfl) ?_ ?_
        · exact Or.inr rfl
        · exact ⟨rfl, Or.inl ⟨rfl, pre.mpr ⟨h2, fun j hj => he j (by omega)⟩⟩⟩
      · omega
    | succ d ih =>
      intro i hi he
      have r1 := octL_r ha.2.2.2 (show i < 2 * s.length by omega)
      have r2 := octL_r hb.2.2.2 (show i < 2 * t.length by omega)
      refine z_iload ho dX13_sameBytes_17 rfl ?_
      refine z_iload_n ho dX13_sameBytes_19 rfl ?_
      refine z_icmp_ge (tgt := 48) ho dX13_sameBytes_20 (by decide) (by unfold rng; omega) (by unfold rng; omega) (fun c20 => ?_) (fun c20 => ?_)
      · omega
      · 
        refine z_aload_n ho dX13_sameBytes_23 rfl ?_
        refine z_iload_n ho dX13_sameBytes_24 rfl ?_
        refine z_iload ho dX13_sameBytes_25 rfl ?_
        refine kX13_174 ho hN (c_moctet _ _ hm ha (by omega) (by omega)) dX13_sameBytes_27 hm.1 (Nat.le_of_ble_eq_true rfl) (Nat.le_of_ble_eq_true rfl) (Nat.le_of_ble_eq_true rfl) (Nat.le_of_ble_eq_true rfl) (fun x27 u27 h27 => ?_)
        obtain ⟨rfl, rfl⟩ := h27
        refine z_aload_n ho dX13_sameBytes_30 rfl ?_
        refine z_iload_n ho dX13_sameBytes_31 rfl ?_
        refine z_iload ho dX13_sameBytes_32 rfl ?_
        refine kX13_174 ho hN (c_moctet _ _ hm hb (by omega) (by omega)) dX13_sameBytes_34 hm.1 (Nat.le_of_ble_eq_true rfl) (Nat.le_of_ble_eq_true rfl) (Nat.le_of_ble_eq_true rfl) (Nat.le_of_ble_eq_true rfl) (fun x34 u34 h34 => ?_)
        obtain ⟨rfl, rfl⟩ := h34
        refine z_icmp_eq (tgt := 42) ho dX13_sameBytes_37 (by decide) (by unfold rng; omega) (by unfold rng; omega) (fun c37 => ?_) (fun c37 => ?_)
        · 
          refine z_iinc ho dX13_sameBytes_42 rfl rfl ?_
          refine z_goto (tgt := 17) ho dX13_sameBytes_45 (by decide) ?_
          refine ih (i + 1) (by omega) (fun j hj => ?_)
          rcases lt_or_eq' hj with z | z
          · exact he j z
          · rw [z]; exact c37
        · 
          refine z_iconst ho dX13_sameBytes_40 ?_
          refine r_Z ho dX13_sameBytes_41 (Nat.le_of_ble_eq_true rfl) (Nat.le_of_ble_eq_true rfl) ?_ ?_
          · exact Or.inl rfl
          · exact ⟨rfl, Or.inr ⟨rfl, fun z => c37 ((pre.mp z).2 i (by omega))⟩⟩
  refine z_iconst ho dX13_sameBytes_0 ?_
  refine z_aload_n ho dX13_sameBytes_1 rfl ?_
  refine gX13_22 ho dX13_sameBytes_2 hm.1 (mget hm.r6 ?_)
  refine z_iload_n ho dX13_sameBytes_5 rfl ?_
  refine z_iald ho dX13_sameBytes_6 hm.k5 (by omega) (hm.t5 (by omega)) ?_
  refine z_imul ho dX13_sameBytes_7 ?_
  refine z_iload_n ho dX13_sameBytes_8 rfl ?_
  refine z_icmp_ge (tgt := 14) ho dX13_sameBytes_9 (by decide) (by rw [lb]; unfold rng; omega) (by unfold rng; omega) (fun c9 => ?_) (fun c9 => ?_)
  · rw [lb] at c9
    refine z_iconst ho dX13_sameBytes_14 ?_
    refine z_istore ho dX13_sameBytes_15 (Nat.le_of_ble_eq_true rfl) rfl ?_
    exact key (by omega) n 0 rfl (fun j hj => by omega)
  · rw [lb] at c9
    refine z_iconst ho dX13_sameBytes_12 ?_
    refine r_Z ho dX13_sameBytes_13 (Nat.le_of_ble_eq_true rfl) (Nat.le_of_ble_eq_true rfl) ?_ ?_
    · exact Or.inl rfl
    · exact ⟨rfl, Or.inr ⟨rfl, fun z => by have := (pre.mp z).1; omega⟩⟩
/-- the bytes that follow P in a list of keys -/
def NxB (K : List (List Int)) (P : List Int) (D : List Int) : Prop := D.Nodup ∧ ∀ b, b ∈ D ↔ ∃ s, P ++ b :: s ∈ K
/-- what fan answers for key k and the text P -/
def FanV (K : List (List Int)) (k : Nat) (P : List Int) (r : Int) : Prop := ((∃ j x, j < k ∧ K[j]? = some x ∧ P <+: x) ∧ r = 0) ∨ ((∀ (j : Nat) x, j < k → K[j]? = some x → ¬ P <+: x) ∧ ((∃ m : Nat, Inn K P m ∧ r = (m : Int)) ∨ ((∀ m : Nat, ¬ Inn K P m) ∧ r = 0)))
theorem pre_next {P x : List Int} (h : P <+: x) (hl : P.length < x.length) : ∃ s, x = P ++ (x.getD P.length 0) :: s := by
  obtain ⟨w, rfl⟩ := h
  cases w with
  | nil => simp at hl
  | cons b s => exact ⟨s, by simp⟩
theorem next_uniq {P s s' : List Int} {b b' : Int} (h : P ++ b :: s = P ++ b' :: s') : b = b' := by
  have := List.append_cancel_left h
  cases this
  rfl
theorem c_fan (l : Launch) (u : Mem) {m kk n : Nat} {M : Nat → List KV} {ch : Nat → Int} {p : KV} {K : List (List Int)} (hm : MF u m) (hM : MM u m M ch) (hK : K = (M 1).map (fun q => ocL q.1)) (hk : (M 1)[kk]? = some p) (hn : n ≤ 2 * p.1.length) : Mt_ l yX13_fan cX13_fan 8 (some .int) 2 0 0 [aR m, aI (64 + (kk : Int)), aI (n : Int)] u (qI fun r v => u = v ∧ rng r ∧ FanV K kk ((ocL p.1).take n) r) := by
  have kp := hM.kt hm (by decide) hk
  rw [show (64 * ((1 : Nat) : Int) + (kk : Int)) = 64 + (kk : Int) by omega] at kp
  obtain ⟨g1, g2, g3, g4, g5⟩ := hM 1 (by decide)
  have g1 : iv_ u (m + 2) 1 = ((M 1).length : Int) := g1
  have kkl := (List.getElem?_eq_some_iff.mp hk).1
  have p8 := kp.2.2.2.1
  have lP : ((ocL p.1).take n).length = n := by rw [List.length_take, ocL_len]; omega
  generalize hP : (ocL p.1).take n = P at *
  have gK : ∀ (j : Nat) q, (M 1)[j]? = some q → K[j]? = some (ocL q.1) := fun j q hj => by rw [hK, List.getElem?_map, hj]; rfl
  have gK' : ∀ (j : Nat) x, K[j]? = some x → ∃ q, (M 1)[j]? = some q ∧ x = ocL q.1 := fun j x hj => by
    rw [hK, List.getElem?_map] at hj
    cases hq : (M 1)[j]? with
    | none => rw [hq] at hj; cases hj
    | some q => rw [hq] at hj; cases hj; exact ⟨q, rfl, rfl⟩
  have lK : K.length = (M 1).length := by rw [hK, List.length_map]
  refine Mt_of (by decide) (Nat.le_of_ble_eq_true rfl) (fun X ho hX hN hI => ?_)
  subst hX
  show Z X 0 [some (aR m), some (aI  (64 + (kk : Int))), some (aI  (n : Int)), none, none, none, none, none] [] u 0 0
  have key : ∀ (d k : Nat) (ends : Int) (D : List Int) (o6 o7 : Option AV), d + k = (M 1).length → (∀ (j : Nat) x, j < k → j < kk → K[j]? = some x → ¬ P <+: x) → qB ends (P ∈ K.take k) → NxB (K.take k) P D → (k : Nat) ≤ 40 → D.length ≤ k → Z X 9 [some (aR m), some (aI (64 + (kk : Int))), some (aI (n : Int)), some (aI ends), some (aI (D.length : Int)), some (aI (64 + (k : Int))), none, none] [] u 0 0 := by
    intro d
    induction d with
    | zero =>
      intro k ends D o6 o7 hdk hno hE hD k40 hDl
      have hkl : k = K.length := by omega
      rw [hkl, List.take_length] at hE hD
      have re : rng ends := by rcases hE with ⟨z, -⟩ | ⟨z, -⟩ <;> rw [z] <;> unfold rng <;> omega
      have none_ : ∀ (j : Nat) x, j < kk → K[j]? = some x → ¬ P <+: x := fun j x hj hx => hno j x (by omega) hj hx
      refine z_iload ho dX13_fan_9 rfl ?_
      refine z_bipush ho dX13_fan_11 rfl ?_
      refine z_aload_n ho dX13_fan_13 rfl ?_
      refine gX13_13 ho dX13_fan_14 hm.1 (mget hm.r3 ?_)
      refine z_iconst ho dX13_fan_17 ?_
      refine z_iald ho dX13_fan_18 hm.k2 (by omega) (hm.t2 (by omega)) ?_
      refine z_iadd ho dX13_fan_19 ?_
      refine z_icmp_ge (tgt := 178) ho dX13_fan_20 (by decide) (by unfold rng; omega) (by rw [g1]; unfold rng; omega) (fun c20 => ?_) (fun c20 => ?_)
      · 
        refine z_iload ho dX13_fan_178 rfl ?_
        refine z_iconst ho dX13_fan_180 ?_
        refine z_icmp_gt (tgt := 188) ho dX13_fan_181 (by decide) (by unfold rng; omega) (by unfold rng; omega) (fun c181 => ?_) (fun c181 => ?_)
        · 
          refine z_iload ho dX13_fan_188 rfl ?_
          refine z_goto (tgt := 194) ho dX13_fan_190 (by decide) ?_
          refine r_I ho dX13_fan_194 (Nat.le_of_ble_eq_true rfl) (Nat.le_of_ble_eq_true rfl) ?_
          exact ⟨rfl, by unfold rng; omega, Or.inr ⟨none_, Or.inl ⟨D.length, ⟨D, hD.1, hD.2, rfl, Or.inl (by omega)⟩, rfl⟩⟩⟩
        · 
          refine z_iload_n ho dX13_fan_184 rfl ?_
          refine z_if_eq (tgt := 193) ho dX13_fan_185 (by decide) re (fun c185 => ?_) (fun c185 => ?_)
          · 
            refine z_iconst ho dX13_fan_193 ?_
            refine r_I ho dX13_fan_194 (Nat.le_of_ble_eq_true rfl) (Nat.le_of_ble_eq_true rfl) ?_
            refine ⟨rfl, by unfold rng; omega, Or.inr ⟨none_, Or.inr ⟨fun m' hI => ?_, rfl⟩⟩⟩
            obtain ⟨D', d1, d2, d3, d4⟩ := hI
            have hl : D'.length = D.length := List.Perm.length_eq ((List.perm_ext_iff_of_nodup d1 hD.1).mpr (fun b => by rw [d2 b, hD.2 b]))
            rcases d4 with z | z
            · omega
            · exact (hE.resolve_left (fun y => by omega)).2 z.1
          · have hPK := (hE.resolve_right (fun y => c185 y.1)).2
            refine z_iload ho dX13_fan_188 rfl ?_
            refine z_goto (tgt := 194) ho dX13_fan_190 (by decide) ?_
            refine r_I ho dX13_fan_194 (Nat.le_of_ble_eq_true rfl) (Nat.le_of_ble_eq_true rfl) ?_
            rcases Nat.eq_zero_or_pos D.length with z | z
            · refine ⟨rfl, by unfold rng; omega, Or.inr ⟨none_, Or.inr ⟨fun m' hI => ?_, by rw [z]; rfl⟩⟩⟩
              obtain ⟨D', d1, d2, d3, d4⟩ := hI
              have hl : D'.length = D.length := List.Perm.length_eq ((List.perm_ext_iff_of_nodup d1 hD.1).mpr (fun b => by rw [d2 b, hD.2 b]))
              rcases d4 with y | y
              · omega
              · omega
            · exact ⟨rfl, by unfold rng; omega, Or.inr ⟨none_, Or.inl ⟨D.length, ⟨D, hD.1, hD.2, rfl, Or.inr ⟨hPK, z⟩⟩, rfl⟩⟩⟩
      · omega
    | succ d ih =>
      intro k ends D o6 o7 hdk hno hE hD k40 hDl
      have hkq : (M 1)[k]? = some (M 1)[k] := List.getElem?_eq_getElem (by omega)
      generalize (M 1)[k] = q at hkq
      have kq := hM.kt hm (by decide) hkq
      rw [show (64 * ((1 : Nat) : Int) + (k : Int)) = 64 + (k : Int) by omega] at kq
      have hKk := gK k q hkq
      have q8 := kq.2.2.2.1
      have lq := kq.2.1
      have tk : K.take (k + 1) = K.take k ++ [ocL q.1] := by rw [List.take_add_one, hKk]; rfl
      have re : rng ends := by rcases hE with ⟨z, -⟩ | ⟨z, -⟩ <;> rw [z] <;> unfold rng <;> omega
      have t172 : ∀ (e' : Int) (D' : List Int) (o6 o7 : Option AV), (∀ (j : Nat) x, j < k + 1 → j < kk → K[j]? = some x → ¬ P <+: x) → qB e' (P ∈ K.take (k + 1)) → NxB (K.take (k + 1)) P D' → D'.length ≤ k + 1 → Z X 172 [some (aR m), some (aI (64 + (kk : Int))), some (aI (n : Int)), some (aI e'), some (aI (D'.length : Int)), some (aI (64 + (k : Int))), o6, o7] [] u 0 0 := fun e' D' o6 o7 h1 h2 h3 h4 => by
        refine z_iinc ho dX13_fan_172 rfl rfl ?_
        refine z_goto (tgt := 9) ho dX13_fan_175 (by decide) ?_
        have nx := ih (k + 1) e' D' none none (by omega) h1 h2 h3 (by omega) h4
        rw [show (64 + ((k + 1 : Nat) : Int)) = 64 + (k : Int) + 1 by omega] at nx
        refine z_wk ?_ nx
        exact ⟨rfl, rfl, rfl, rfl, rfl, rfl, trivial⟩
      refine z_iload ho dX13_fan_9 rfl ?_
      refine z_bipush ho dX13_fan_11 rfl ?_
      refine z_aload_n ho dX13_fan_13 rfl ?_
      refine gX13_13 ho dX13_fan_14 hm.1 (mget hm.r3 ?_)
      refine z_iconst ho dX13_fan_17 ?_
      refine z_iald ho dX13_fan_18 hm.k2 (by omega) (hm.t2 (by omega)) ?_
      refine z_iadd ho dX13_fan_19 ?_
      refine z_icmp_ge (tgt := 178) ho dX13_fan_20 (by decide) (by unfold rng; omega) (by rw [g1]; unfold rng; omega) (fun c20 => ?_) (fun c20 => ?_)
      · omega
      · have hsb := c_same (La_ X) u hm kp kq hn
        rw [hP] at hsb
        refine z_aload_n ho dX13_fan_23 rfl ?_
        refine z_iload_n ho dX13_fan_24 rfl ?_
        refine z_iload ho dX13_fan_25 rfl ?_
        refine z_iload_n ho dX13_fan_27 rfl ?_
        refine kX13_177 ho hN (hsb) dX13_fan_28 hm.1 (Nat.le_of_ble_eq_true rfl) (Nat.le_of_ble_eq_true rfl) (Nat.le_of_ble_eq_true rfl) (Nat.le_of_ble_eq_true rfl) (fun x28 u28 h28 => ?_)
        obtain ⟨rfl, hb⟩ := h28
        refine z_if_ne (tgt := 37) ho dX13_fan_31 (by decide) (by rcases hb with ⟨z, -⟩ | ⟨z, -⟩ <;> rw [z] <;> unfold rng <;> omega) (fun c31 => ?_) (fun c31 => ?_)
        · have hpx := (hb.resolve_right (fun z => c31 z.1)).2
          have lq2 := ocL_len q.1
          have npx := hpx.length_le
          rw [lP, lq2] at npx
          refine z_iload ho dX13_fan_37 rfl ?_
          refine z_iload_n ho dX13_fan_39 rfl ?_
          refine z_icmp_ge (tgt := 45) ho dX13_fan_40 (by decide) (by unfold rng; omega) (by unfold rng; omega) (fun c40 => ?_) (fun c40 => ?_)
          · have hno' : ∀ (j : Nat) x, j < k + 1 → j < kk → K[j]? = some x → ¬ P <+: x := fun j x hj hjk hx => by
              rcases lt_or_eq' hj with z | z
              · exact hno j x z hjk hx
              · omega
            have t67 : ∀ e' : Int, qB e' (P ∈ K.take (k + 1)) → Z X 67 [some (aR m), some (aI (64 + (kk : Int))), some (aI (n : Int)), some (aI ends), some (aI (D.length : Int)), some (aI (64 + (k : Int))), none, none] [aI e'] u 0 0 := fun e' he' => by
              refine z_istore_n ho dX13_fan_67 (Nat.le_of_ble_eq_true rfl) rfl ?_
              refine z_iconst ho dX13_fan_68 ?_
              refine z_aload_n ho dX13_fan_69 rfl ?_
              refine gX13_22 ho dX13_fan_70 hm.1 (mget hm.r6 ?_)
              refine z_iload ho dX13_fan_73 rfl ?_
              refine z_iald ho dX13_fan_75 hm.k5 (by omega) (hm.t5 (by omega)) ?_
              refine z_imul ho dX13_fan_76 ?_
              refine z_iload_n ho dX13_fan_77 rfl ?_
              refine z_icmp_ne (tgt := 84) ho dX13_fan_78 (by decide) (by rw [lq]; unfold rng; omega) (by unfold rng; omega) (fun c78 => ?_) (fun c78 => ?_)
              · rw [lq] at c78
                -- a byte follows
                obtain ⟨s0, hs0⟩ := pre_next hpx (by rw [lP, lq2]; omega)
                rw [lP] at hs0
                have hb0 : (ocL q.1).getD n 0 = octL q.1 (n : Int) := by rw [List.getD_eq_getElem?_getD, oc_at (by omega)]; rfl
                rw [hb0] at hs0
                generalize hbb : octL q.1 (n : Int) = b0 at *
                have r0 : 0 ≤ b0 ∧ b0 < 256 := by rw [← hbb]; exact octL_r kq.2.2.2 (by omega)
                have inn : ∀ (a i : Nat) (fr : Int), a + i = k → qB fr (∀ s, P ++ b0 :: s ∉ K.take i) → Z X 91 [some (aR m), some (aI (64 + (kk : Int))), some (aI (n : Int)), some (aI e'), some (aI (D.length : Int)), some (aI (64 + (k : Int))), some (aI fr), some (aI (64 + (i : Int)))] [] u 0 0 := by
                  intro a
                  induction a with
                  | zero =>
                    intro i fr hi hfr
                    have hik : i = k := by omega
                    rw [hik] at hfr
                    have rf : rng fr := by rcases hfr with ⟨z, -⟩ | ⟨z, -⟩ <;> rw [z] <;> unfold rng <;> omega
                    have hmem : ∀ b, (∃ s, P ++ b :: s ∈ K.take (k + 1)) ↔ b ∈ D ∨ b = b0 := fun b => by
                      rw [hD.2 b, tk]
                      constructor
                      · rintro ⟨s, hs⟩
                        rcases List.mem_append.mp hs with z | z
                        · exact Or.inl ⟨s, z⟩
                        · rw [List.mem_singleton, hs0] at z
                          exact Or.inr (next_uniq z)
                      · rintro (⟨s, hs⟩ | z)
                        · exact ⟨s, List.mem_append_left _ hs⟩
                        · rw [z]; exact ⟨s0, List.mem_append_right _ (by rw [← hs0]; simp)⟩
                    refine z_iload ho dX13_fan_91 rfl ?_
                    refine z_iload ho dX13_fan_93 rfl ?_
                    refine z_icmp_ge (tgt := 157) ho dX13_fan_95 (by decide) (by unfold rng; omega) (by unfold rng; omega) (fun c95 => ?_) (fun c95 => ?_)
                    · 
                      refine z_iload ho dX13_fan_157 rfl ?_
                      refine z_iload ho dX13_fan_159 rfl ?_
                      refine z_if_eq (tgt := 168) ho dX13_fan_161 (by decide) rf (fun c161 => ?_) (fun c161 => ?_)
                      · have hnf := (hfr.resolve_left (fun z => by omega)).2
                        have hbD : b0 ∈ D := by
                          rw [hD.2 b0]
                          exact Classical.byContradiction (fun z => hnf (fun s hs => z ⟨s, hs⟩))
                        refine z_iconst ho dX13_fan_168 ?_
                        refine z_iadd ho dX13_fan_169 ?_
                        refine z_istore ho dX13_fan_170 (Nat.le_of_ble_eq_true rfl) rfl ?_
                        rw [Int.add_zero]
                        exact t172 e' D _ _ hno' he' ⟨hD.1, fun b => by rw [hmem b]; exact ⟨fun z => Or.inl z, fun z => by rcases z with z | z; (· exact z); rw [z]; exact hbD⟩⟩ (by omega)
                      · have hfs := (hfr.resolve_right (fun z => c161 z.1)).2
                        have hbD : b0 ∉ D := fun z => by
                          obtain ⟨s, hs⟩ := (hD.2 b0).mp z
                          exact hfs s hs
                        refine z_iconst ho dX13_fan_164 ?_
                        refine z_goto (tgt := 169) ho dX13_fan_165 (by decide) ?_
                        refine z_iadd ho dX13_fan_169 ?_
                        refine z_istore ho dX13_fan_170 (Nat.le_of_ble_eq_true rfl) rfl ?_
                        have := t172 e' (b0 :: D) (some (aI fr)) (some (aI (64 + (i : Int)))) hno' he' ⟨List.nodup_cons.mpr ⟨hbD, hD.1⟩, fun b => by rw [hmem b, List.mem_cons]; exact Or.comm⟩ (by rw [List.length_cons]; omega)
                        rw [List.length_cons] at this
                        exact this
                    · omega
                  | succ a iha =>
                    intro i fr hi hfr
                    have hiq : (M 1)[i]? = some (M 1)[i] := List.getElem?_eq_getElem (by omega)
                    generalize (M 1)[i] = qi at hiq
                    have ki := hM.kt hm (by decide) hiq
                    rw [show (64 * ((1 : Nat) : Int) + (i : Int)) = 64 + (i : Int) by omega] at ki
                    have hKi := gK i qi hiq
                    have i8 := ki.2.2.2.1
                    have li := ki.2.1
                    have li2 := ocL_len qi.1
                    have ti : K.take (i + 1) = K.take i ++ [ocL qi.1] := by rw [List.take_add_one, hKi]; rfl
                    have rf : rng fr := by rcases hfr with ⟨z, -⟩ | ⟨z, -⟩ <;> rw [z] <;> unfold rng <;> omega
                    have nx : ∀ fr' : Int, qB fr' (∀ s, P ++ b0 :: s ∉ K.take (i + 1)) → Z X 149 [some (aR m), some (aI (64 + (kk : Int))), some (aI (n : Int)), some (aI e'), some (aI (D.length : Int)), some (aI (64 + (k : Int))), some (aI fr), some (aI (64 + (i : Int)))] [aI fr'] u 0 0 := fun fr' hf' => by
                      refine z_istore ho dX13_fan_149 (Nat.le_of_ble_eq_true rfl) rfl ?_
                      refine z_iinc ho dX13_fan_151 rfl rfl ?_
                      refine z_goto (tgt := 91) ho dX13_fan_154 (by decide) ?_
                      have := iha (i + 1) fr' (by omega) hf'
                      rw [show (64 + ((i + 1 : Nat) : Int)) = 64 + (i : Int) + 1 by omega] at this
                      exact this
                    have t144 : fr = 1 → (∀ s, ocL qi.1 ≠ P ++ b0 :: s) → Z X 144 [some (aR m), some (aI (64 + (kk : Int))), some (aI (n : Int)), some (aI e'), some (aI (D.length : Int)), some (aI (64 + (k : Int))), some (aI fr), some (aI (64 + (i : Int)))] [] u 0 0 := fun h1 h2 => by
                      refine z_iconst ho dX13_fan_144 ?_
                      refine z_goto (tgt := 149) ho dX13_fan_145 (by decide) ?_
                      refine nx 1 (Or.inl ⟨rfl, fun s hs => ?_⟩)
                      rw [ti] at hs
                      rcases List.mem_append.mp hs with z | z
                      · exact (hfr.resolve_right (fun y => by omega)).2 s z
                      · exact h2 s (List.mem_singleton.mp z).symm
                    refine z_iload ho dX13_fan_91 rfl ?_
                    refine z_iload ho dX13_fan_93 rfl ?_
                    refine z_icmp_ge (tgt := 157) ho dX13_fan_95 (by decide) (by unfold rng; omega) (by unfold rng; omega) (fun c95 => ?_) (fun c95 => ?_)
                    · omega
                    · 
                      refine z_iload ho dX13_fan_98 rfl ?_
                      refine z_if_eq (tgt := 148) ho dX13_fan_100 (by decide) rf (fun c100 => ?_) (fun c100 => ?_)
                      · 
                        refine z_iconst ho dX13_fan_148 ?_
                        refine nx 0 (Or.inr ⟨rfl, fun z => (hfr.resolve_left (fun y => by omega)).2 (fun s hs => z s (by rw [ti]; exact List.mem_append_left _ hs))⟩)
                      · have fr1 : fr = 1 := by rcases hfr with z | z; (· exact z.1); exact absurd z.1 c100
                        have hsi := c_same (La_ X) u hm kp ki hn
                        rw [hP] at hsi
                        refine z_aload_n ho dX13_fan_103 rfl ?_
                        refine z_iload_n ho dX13_fan_104 rfl ?_
                        refine z_iload ho dX13_fan_105 rfl ?_
                        refine z_iload_n ho dX13_fan_107 rfl ?_
                        refine kX13_177 ho hN (hsi) dX13_fan_108 hm.1 (Nat.le_of_ble_eq_true rfl) (Nat.le_of_ble_eq_true rfl) (Nat.le_of_ble_eq_true rfl) (Nat.le_of_ble_eq_true rfl) (fun x108 u108 h108 => ?_)
                        obtain ⟨rfl, hbi⟩ := h108
                        refine z_if_eq (tgt := 144) ho dX13_fan_111 (by decide) (by rcases hbi with ⟨z, -⟩ | ⟨z, -⟩ <;> rw [z] <;> unfold rng <;> omega) (fun c111 => ?_) (fun c111 => ?_)
                        · have hnp := (hbi.resolve_left (fun z => by omega)).2
                          exact t144 fr1 (fun s hs => hnp ⟨b0 :: s, hs.symm⟩)
                        · have hpi := (hbi.resolve_right (fun z => c111 z.1)).2
                          refine z_iconst ho dX13_fan_114 ?_
                          refine z_aload_n ho dX13_fan_115 rfl ?_
                          refine gX13_22 ho dX13_fan_116 hm.1 (mget hm.r6 ?_)
                          refine z_iload ho dX13_fan_119 rfl ?_
                          refine z_iald ho dX13_fan_121 hm.k5 (by omega) (hm.t5 (by omega)) ?_
                          refine z_imul ho dX13_fan_122 ?_
                          refine z_iload_n ho dX13_fan_123 rfl ?_
                          refine z_icmp_le (tgt := 144) ho dX13_fan_124 (by decide) (by rw [li]; unfold rng; omega) (by unfold rng; omega) (fun c124 => ?_) (fun c124 => ?_)
                          · rw [li] at c124
                            exact t144 fr1 (fun s hs => by
                              have := congrArg List.length hs
                              rw [List.length_append, List.length_cons, li2, lP] at this
                              omega)
                          · rw [li] at c124
                            have ri := octL_r ki.2.2.2 (show n < 2 * qi.1.length by omega)
                            obtain ⟨si, hsi'⟩ := pre_next hpi (by rw [lP, li2]; omega)
                            rw [lP] at hsi'
                            have hbi0 : (ocL qi.1).getD n 0 = octL qi.1 (n : Int) := by rw [List.getD_eq_getElem?_getD, oc_at (by omega)]; rfl
                            rw [hbi0] at hsi'
                            have hcq := c_moctet (La_ X) u hm kq (i := (n : Int)) (by omega) (by omega)
                            rw [hbb] at hcq
                            refine z_aload_n ho dX13_fan_127 rfl ?_
                            refine z_iload ho dX13_fan_128 rfl ?_
                            refine z_iload_n ho dX13_fan_130 rfl ?_
                            refine kX13_174 ho hN (c_moctet _ _ hm ki (by omega) (by omega)) dX13_fan_131 hm.1 (Nat.le_of_ble_eq_true rfl) (Nat.le_of_ble_eq_true rfl) (Nat.le_of_ble_eq_true rfl) (Nat.le_of_ble_eq_true rfl) (fun x131 u131 h131 => ?_)
                            obtain ⟨rfl, rfl⟩ := h131
                            refine z_aload_n ho dX13_fan_134 rfl ?_
                            refine z_iload ho dX13_fan_135 rfl ?_
                            refine z_iload_n ho dX13_fan_137 rfl ?_
                            refine kX13_174 ho hN (hcq) dX13_fan_138 hm.1 (Nat.le_of_ble_eq_true rfl) (Nat.le_of_ble_eq_true rfl) (Nat.le_of_ble_eq_true rfl) (Nat.le_of_ble_eq_true rfl) (fun x138 u138 h138 => ?_)
                            obtain ⟨rfl, rfl⟩ := h138
                            refine z_icmp_eq (tgt := 148) ho dX13_fan_141 (by decide) (by unfold rng; omega) (by unfold rng; omega) (fun c141 => ?_) (fun c141 => ?_)
                            · 
                              refine z_iconst ho dX13_fan_148 ?_
                              refine nx 0 (Or.inr ⟨rfl, fun z => z si ?_⟩)
                              rw [ti, ← c141, ← hsi']
                              simp
                            · exact t144 fr1 (fun s hs => c141 (by rw [hsi'] at hs; exact next_uniq hs))
                refine z_iconst ho dX13_fan_84 ?_
                refine z_istore ho dX13_fan_85 (Nat.le_of_ble_eq_true rfl) rfl ?_
                refine z_bipush ho dX13_fan_87 rfl ?_
                refine z_istore ho dX13_fan_89 (Nat.le_of_ble_eq_true rfl) rfl ?_
                exact inn k 0 1 rfl (Or.inl ⟨rfl, fun s hs => by simp at hs⟩)
              · rw [lq] at c78
                -- it ends here
                refine z_goto (tgt := 172) ho dX13_fan_81 (by decide) ?_
                have hPe : P = ocL q.1 := hpx.eq_of_length (by rw [lP, lq2]; omega)
                refine t172 e' D _ _ hno' he' ⟨hD.1, fun b => ?_⟩ (by omega)
                rw [hD.2 b, tk]
                constructor
                · rintro ⟨s, hs⟩
                  exact ⟨s, List.mem_append_left _ hs⟩
                · rintro ⟨s, hs⟩
                  rcases List.mem_append.mp hs with z | z
                  · exact ⟨s, z⟩
                  · rw [List.mem_singleton, ← hPe] at z
                    have := congrArg List.length z
                    rw [List.length_append, List.length_cons] at this
                    omega
            refine z_iload_n ho dX13_fan_45 rfl ?_
            refine z_if_ne (tgt := 62) ho dX13_fan_46 (by decide) re (fun c46 => ?_) (fun c46 => ?_)
            · have hPK := (hE.resolve_right (fun y => c46 y.1)).2
              refine z_iconst ho dX13_fan_62 ?_
              refine z_goto (tgt := 67) ho dX13_fan_63 (by decide) ?_
              exact t67 1 (Or.inl ⟨rfl, by rw [tk]; exact List.mem_append_left _ hPK⟩)
            · have hnE := (hE.resolve_left (fun y => by omega)).2
              refine z_iconst ho dX13_fan_49 ?_
              refine z_aload_n ho dX13_fan_50 rfl ?_
              refine gX13_22 ho dX13_fan_51 hm.1 (mget hm.r6 ?_)
              refine z_iload ho dX13_fan_54 rfl ?_
              refine z_iald ho dX13_fan_56 hm.k5 (by omega) (hm.t5 (by omega)) ?_
              refine z_imul ho dX13_fan_57 ?_
              refine z_iload_n ho dX13_fan_58 rfl ?_
              refine z_icmp_ne (tgt := 66) ho dX13_fan_59 (by decide) (by rw [lq]; unfold rng; omega) (by unfold rng; omega) (fun c59 => ?_) (fun c59 => ?_)
              · rw [lq] at c59
                refine z_iconst ho dX13_fan_66 ?_
                refine t67 0 (Or.inr ⟨rfl, fun z => ?_⟩)
                rw [tk] at z
                rcases List.mem_append.mp z with y | y
                · exact hnE y
                · have := congrArg List.length (List.mem_singleton.mp y)
                  rw [lP, lq2] at this
                  omega
              · rw [lq] at c59
                refine z_iconst ho dX13_fan_62 ?_
                refine z_goto (tgt := 67) ho dX13_fan_63 (by decide) ?_
                refine t67 1 (Or.inl ⟨rfl, ?_⟩)
                have hPe : P = ocL q.1 := hpx.eq_of_length (by rw [lP, lq2]; omega)
                rw [tk, ← hPe]
                simp
          · 
            refine z_iconst ho dX13_fan_43 ?_
            refine r_I ho dX13_fan_44 (Nat.le_of_ble_eq_true rfl) (Nat.le_of_ble_eq_true rfl) ?_
            exact ⟨rfl, by unfold rng; omega, Or.inl ⟨⟨k, _, by omega, hKk, hpx⟩, rfl⟩⟩
        · have hnp := (hb.resolve_left (fun z => by omega)).2
          refine z_goto (tgt := 172) ho dX13_fan_34 (by decide) ?_
          refine t172 ends D _ _ (fun j x hj hjk hx => ?_) ?_ ⟨hD.1, fun b => ?_⟩ (by omega)
          · rcases lt_or_eq' hj with z | z
            · exact hno j x z hjk hx
            · rw [z, hKk] at hx; cases hx; exact hnp
          · rw [tk]
            rcases hE with ⟨z1, z2⟩ | ⟨z1, z2⟩
            · exact Or.inl ⟨z1, List.mem_append_left _ z2⟩
            · refine Or.inr ⟨z1, fun z => ?_⟩
              rcases List.mem_append.mp z with y | y
              · exact z2 y
              · exact hnp (by rw [List.mem_singleton.mp y]; exact List.prefix_refl _)
          · rw [hD.2 b, tk]
            constructor
            · rintro ⟨s, hs⟩
              exact ⟨s, List.mem_append_left _ hs⟩
            · rintro ⟨s, hs⟩
              rcases List.mem_append.mp hs with z | z
              · exact ⟨s, z⟩
              · exact absurd ⟨b :: s, List.mem_singleton.mp z⟩ hnp
  refine z_iconst ho dX13_fan_0 ?_
  refine z_istore_n ho dX13_fan_1 (Nat.le_of_ble_eq_true rfl) rfl ?_
  refine z_iconst ho dX13_fan_2 ?_
  refine z_istore ho dX13_fan_3 (Nat.le_of_ble_eq_true rfl) rfl ?_
  refine z_bipush ho dX13_fan_5 rfl ?_
  refine z_istore ho dX13_fan_7 (Nat.le_of_ble_eq_true rfl) rfl ?_
  exact key (M 1).length 0 0 [] none none rfl (fun j x hj => by omega) (Or.inr ⟨rfl, by simp⟩) ⟨List.nodup_nil, fun b => by simp⟩ (by omega) (by simp)
