set_option maxRecDepth 100000
/-! ===== KeyHallModel: alike; the plain law of a minimal automaton that grows ===== -/
theorem PrA.letter {u : Mem} {m i q : Nat} {M : Nat → List KV} {ch : Nat → Int} {PL : List (Nat × List Int)} {Q : Nat × List Int} {s : List Int} {c : Int} (hP : PrA u m (M i) (64 * (i : Int)) PL) (hm : MF u m) (hM : MM u m M ch) (hi : i < 3) (hq : PL[q]? = some Q) (he : Q.2 = s ++ [c]) : iv_ u (m + 4) (8 * iv_ u (m + 19) (q : Int) + (s.length : Int)) = c ∧ (0 ≤ c ∧ c < 65536) ∧ 0 ≤ iv_ u (m + 19) (q : Int) ∧ iv_ u (m + 19) (q : Int) < 192 ∧ s.length < 8 := by
  obtain ⟨p1, p2, p3⟩ := hP
  obtain ⟨a1, a2, kv, a3, a4⟩ := p3 q Q hq
  have k := hM.kt hm hi a3
  have l1 := a4.length_le
  have l8 := k.2.2.2.1
  rw [he, List.length_append] at l1
  simp at l1
  obtain ⟨e1, e2, e3⟩ := k.2.2.1.at_ (j := (s.length : Int)) (by omega) (by omega)
  rw [a1]
  rw [he] at a4
  obtain ⟨w, hw⟩ := a4
  have hc : _root_.Jvm.Pilot.CKeyHallLaw_law_r3948_e91dda.ch kv.1 (s.length : Int) = c := by
    rw [← hw]
    unfold _root_.Jvm.Pilot.CKeyHallLaw_law_r3948_e91dda.ch
    simp
  rw [hc] at e1
  rw [e1] at e2 e3
  have := k.1
  exact ⟨e1, ⟨e2, e3⟩, this.1, this.2, by omega⟩
theorem c_alike (l : Launch) (u : Mem) {m i s p : Nat} {M : Nat → List KV} {ch : Nat → Int} {PL : List (Nat × List Int)} {P : Nat × List Int} {SL : List (Nat × Int × Nat)} (hm : MF u m) (hM : MM u m M ch) (hi : i < 3) (hP : PrA u m (M i) (64 * (i : Int)) PL) (hS : StA u m SL) (hdet : ∀ c t t', (s, c, t) ∈ SL → (s, c, t') ∈ SL → t = t') (hs : s < 580) (hp : PL[p]? = some P) (hso : ∀ (q : Nat) (Q : Nat × List Int) (c : Int), PL[q]? = some Q → Q.2 = P.2 ++ [c] → ∃ t : Nat, iv_ u (m + 21) (q : Int) = (t : Int) ∧ t < 580) : Mt_ l yX13_alike cX13_alike 4 (some .boolean) 3 0 0 [aR m, aI (s : Int), aI (p : Int)] u (qI fun r v => u = v ∧ qB r (∀ (q : Nat) (Q : Nat × List Int) (c : Int), PL[q]? = some Q → Q.2 = P.2 ++ [c] → ∃ t : Nat, iv_ u (m + 21) (q : Int) = (t : Int) ∧ (s, c, t) ∈ SL)) := by
  have p1 := hP.1
  have p2 := hP.2.1
  have pl := (List.getElem?_eq_some_iff.mp hp).1
  obtain ⟨b1, b2, -⟩ := hP.2.2 p P hp
  refine Mt_of (by decide) (Nat.le_of_ble_eq_true rfl) (fun X ho hX hN hI => ?_)
  subst hX
  show Z X 0 [some (aR m), some (aI  (s : Int)), some (aI  (p : Int)), none] [] u 0 0
  have key : ∀ (d k : Nat), d + k = PL.length → (∀ (q : Nat) (Q : Nat × List Int) (c : Int), q < k → PL[q]? = some Q → Q.2 = P.2 ++ [c] → ∃ t : Nat, iv_ u (m + 21) (q : Int) = (t : Int) ∧ (s, c, t) ∈ SL) → Z X 2 [some (aR m), some (aI (s : Int)), some (aI (p : Int)), some (aI (k : Int))] [] u 0 0 := by
    intro d
    induction d with
    | zero =>
      intro k hk hy
      refine z_iload_n ho dX13_alike_2 rfl ?_
      refine z_aload_n ho dX13_alike_3 rfl ?_
      refine gX13_193 ho dX13_alike_4 hm.1 ?_
      refine z_icmp_ge (tgt := 62) ho dX13_alike_7 (by decide) (by unfold rng; omega) (by rw [p1]; unfold rng; omega) (fun c7 => ?_) (fun c7 => ?_)
      · 
        refine z_iconst ho dX13_alike_62 ?_
        refine r_Z ho dX13_alike_63 (Nat.le_of_ble_eq_true rfl) (Nat.le_of_ble_eq_true rfl) ?_ ?_
        · exact Or.inr rfl
        · exact ⟨rfl, Or.inl ⟨rfl, fun q Q c hq he => hy q Q c (by have := (List.getElem?_eq_some_iff.mp hq).1; omega) hq he⟩⟩
      · omega
    | succ d ih =>
      intro k hk hy
      have hkq : PL[k]? = some PL[k] := List.getElem?_eq_getElem (by omega)
      generalize PL[k] = Q at hkq
      have t56 : (∀ c, Q.2 = P.2 ++ [c] → ∃ t : Nat, iv_ u (m + 21) (k : Int) = (t : Int) ∧ (s, c, t) ∈ SL) → Z X 56 [some (aR m), some (aI (s : Int)), some (aI (p : Int)), some (aI (k : Int))] [] u 0 0 := fun hn => by
        refine z_iinc ho dX13_alike_56 rfl rfl ?_
        refine z_goto (tgt := 2) ho dX13_alike_59 (by decide) ?_
        refine ih (k + 1) (by omega) (fun q Q' c hq hQ he => ?_)
        rcases lt_or_eq' hq with z | z
        · exact hy q Q' c z hQ he
        · rw [z, hkq] at hQ; cases hQ; rw [z]; exact hn c he
      refine z_iload_n ho dX13_alike_2 rfl ?_
      refine z_aload_n ho dX13_alike_3 rfl ?_
      refine gX13_193 ho dX13_alike_4 hm.1 ?_
      refine z_icmp_ge (tgt := 62) ho dX13_alike_7 (by decide) (by unfold rng; omega) (by rw [p1]; unfold rng; omega) (fun c7 => ?_) (fun c7 => ?_)
      · omega
      · 
        refine z_aload_n ho dX13_alike_10 rfl ?_
        refine z_iload_n ho dX13_alike_11 rfl ?_
        refine z_iload_n ho dX13_alike_12 rfl ?_
        refine kX13_217 ho hN (c_follows _ _ hm hM hi hP hkq hp) dX13_alike_13 hm.1 (Nat.le_of_ble_eq_true rfl) (Nat.le_of_ble_eq_true rfl) (Nat.le_of_ble_eq_true rfl) (Nat.le_of_ble_eq_true rfl) (fun x13 u13 h13 => ?_)
        obtain ⟨rfl, hf⟩ := h13
        refine z_if_eq (tgt := 56) ho dX13_alike_16 (by decide) (by rcases hf with ⟨z, -⟩ | ⟨z, -⟩ <;> rw [z] <;> unfold rng <;> omega) (fun c16 => ?_) (fun c16 => ?_)
        · exact t56 (fun c hc => absurd ⟨c, hc⟩ (hf.resolve_left (fun y => by omega)).2)
        · obtain ⟨c, hc⟩ := (hf.resolve_right (fun y => c16 y.1)).2
          obtain ⟨g1, g2, g3, g4, g5⟩ := hP.letter hm hM hi hkq hc
          obtain ⟨t0, ht0, ht0'⟩ := hso k Q c hkq hc
          rw [← b2] at g1
          refine z_aload_n ho dX13_alike_19 rfl ?_
          refine z_iload_n ho dX13_alike_20 rfl ?_
          refine z_aload_n ho dX13_alike_21 rfl ?_
          refine gX13_19 ho dX13_alike_22 hm.1 (mget hm.r5 ?_)
          refine z_bipush ho dX13_alike_25 rfl ?_
          refine z_aload_n ho dX13_alike_27 rfl ?_
          refine gX13_69 ho dX13_alike_28 hm.1 (mget hm.r23 ?_)
          refine z_iload_n ho dX13_alike_31 rfl ?_
          refine z_iald ho dX13_alike_32 hm.k19 (by omega) (hm.t19 (by omega)) ?_
          refine z_imul ho dX13_alike_33 ?_
          refine z_aload_n ho dX13_alike_34 rfl ?_
          refine gX13_72 ho dX13_alike_35 hm.1 (mget hm.r24 ?_)
          refine z_iload_n ho dX13_alike_38 rfl ?_
          refine z_iald ho dX13_alike_39 hm.k20 (by omega) (hm.t20 (by omega)) ?_
          refine z_iadd ho dX13_alike_40 ?_
          refine z_iald ho dX13_alike_41 hm.k4 (by omega) (hm.t4 (by omega)) ?_
          rw [g1]
          refine kX13_226 ho hN (c_go _ _ hm hS hs g2.1 g2.2) dX13_alike_42 hm.1 (Nat.le_of_ble_eq_true rfl) (Nat.le_of_ble_eq_true rfl) (Nat.le_of_ble_eq_true rfl) (Nat.le_of_ble_eq_true rfl) (fun x42 u42 h42 => ?_)
          obtain ⟨rfl, hg⟩ := h42
          refine z_aload_n ho dX13_alike_45 rfl ?_
          refine gX13_75 ho dX13_alike_46 hm.1 (mget hm.r25 ?_)
          refine z_iload_n ho dX13_alike_49 rfl ?_
          refine z_iald ho dX13_alike_50 hm.k21 (by omega) (hm.t21 (by omega)) ?_
          refine z_icmp_eq (tgt := 56) ho dX13_alike_51 (by decide) (by rcases hg with ⟨z, -⟩ | ⟨t, -, z, z'⟩ <;> rw [z] <;> unfold rng <;> omega) (by rw [ht0]; unfold rng; omega) (fun c51 => ?_) (fun c51 => ?_)
          · refine t56 (fun c' hc' => ⟨t0, ht0, ?_⟩)
            have ec : c = c' := by
              rw [hc] at hc'
              have := List.append_cancel_left hc'
              simpa using this
            rcases hg with ⟨z, -⟩ | ⟨t, h1, h2, h3⟩
            · omega
            · have : t = t0 := by omega
              rw [← ec, ← this]
              exact h1
          · 
            refine z_iconst ho dX13_alike_54 ?_
            refine r_Z ho dX13_alike_55 (Nat.le_of_ble_eq_true rfl) (Nat.le_of_ble_eq_true rfl) ?_ ?_
            · exact Or.inl rfl
            · refine ⟨rfl, Or.inr ⟨rfl, fun hall => ?_⟩⟩
              obtain ⟨t, y1, y2⟩ := hall k Q c hkq hc
              rcases hg with ⟨-, z⟩ | ⟨t', h1, h2, h3⟩
              · exact z t y2
              · have := hdet c t t' y2 h1
                omega
  refine z_iconst ho dX13_alike_0 ?_
  refine z_istore_n ho dX13_alike_1 (Nat.le_of_ble_eq_true rfl) rfl ?_
  exact key PL.length 0 rfl (fun q Q c hq => by omega)
/-- steps by their states, while it grows -/
theorem sum_stepsN {RL : List (List Int → Prop)} {SL : List (Nat × Int × Nat)} (hnd : SL.Nodup) (hc : RL.Nodup) (hcl : ∀ R ∈ RL, ∀ c, (∃ w, R (c :: w)) → (fun w => R (c :: w)) ∈ RL) (h4 : ∀ (s : Nat) (c : Int) (t : Nat), (s, c, t) ∈ SL ↔ ∃ R, RL[s]? = some R ∧ (∃ w, R (c :: w)) ∧ RL[t]? = some (fun w => R (c :: w))) : ∀ s R, RL[s]? = some R → ∃ D : List Int, D.Nodup ∧ (∀ c, c ∈ D ↔ ∃ w, R (c :: w)) ∧ (SL.filter (fun q => q.1 == s)).length = D.length := by
  intro s R hs
  refine ⟨(SL.filter (fun q => q.1 == s)).map (fun q => q.2.1), ?_, fun c => ?_, by rw [List.length_map]⟩
  · refine List.pairwise_map.mpr ((List.Pairwise.and_mem.mp (hnd.filter _)).imp (fun {a b} hab e => ?_))
    obtain ⟨ha, hb, hne⟩ := hab
    obtain ⟨a1, a2⟩ := List.mem_filter.mp ha
    obtain ⟨b1, b2⟩ := List.mem_filter.mp hb
    have ea : a.1 = s := by simpa using a2
    have eb : b.1 = s := by simpa using b2
    obtain ⟨Ra, p1, -, p3⟩ := (h4 a.1 a.2.1 a.2.2).mp a1
    obtain ⟨Rb, r1, -, r3⟩ := (h4 b.1 b.2.1 b.2.2).mp b1
    rw [ea, hs] at p1
    rw [eb, hs] at r1
    cases p1
    cases r1
    rw [← e] at r3
    have l1 := (List.getElem?_eq_some_iff.mp p3).1
    have := (List.getElem?_inj l1 hc).mp (p3.trans r3.symm)
    exact hne (by
      obtain ⟨x1, x2, x3⟩ := a
      obtain ⟨y1, y2, y3⟩ := b
      simp only at ea eb e this
      rw [ea, eb, e, this])
  · rw [List.mem_map]
    constructor
    · rintro ⟨q, hq, rfl⟩
      obtain ⟨q1, q2⟩ := List.mem_filter.mp hq
      have eq : q.1 = s := by simpa using q2
      obtain ⟨R', p1, p2, -⟩ := (h4 q.1 q.2.1 q.2.2).mp q1
      rw [eq, hs] at p1
      cases p1
      exact p2
    · intro hw
      have hmem := hcl R (List.mem_of_getElem? hs) c hw
      obtain ⟨t, ht, e⟩ := List.mem_iff_getElem.mp hmem
      refine ⟨(s, c, t), List.mem_filter.mpr ⟨(h4 s c t).mpr ⟨R, hs, hw, by rw [List.getElem?_eq_getElem ht, e]⟩, by simp⟩, rfl⟩
theorem nd_subI : ∀ (l m : List Int), l.Nodup → (∀ x ∈ l, x ∈ m) → l.length ≤ m.length := by
  intro l
  induction l with
  | nil => intro m _ _; simp
  | cons a l ih =>
    intro m hn hs
    have hn' := List.nodup_cons.mp hn
    have ha := hs a (by simp)
    have := ih (m.erase a) hn'.2 (fun x hx => (List.mem_erase_of_ne (fun z => hn'.1 (by rw [← z]; exact hx))).mpr (hs x (by simp [hx])))
    rw [List.length_erase_of_mem ha] at this
    have hp : 0 < m.length := List.length_pos_of_mem ha
    simp only [List.length_cons]
    omega
theorem nd_eqI {D E : List Int} (h1 : D.Nodup) (hs : ∀ x ∈ D, x ∈ E) (hl : E.length ≤ D.length) : ∀ x ∈ E, x ∈ D := by
  intro x hx
  apply Classical.byContradiction
  intro hn
  have := nd_subI (x :: D) E (List.nodup_cons.mpr ⟨hn, h1⟩) (fun y hy => by
    rcases List.mem_cons.mp hy with z | z
    · rw [z]; exact hx
    · exact hs y z)
  simp only [List.length_cons] at this
  omega
/-- a state is that of a prefix if it ends alike, has as many steps, and its steps go where the prefix's go -/
theorem same_res {R S : List Int → Prop} {D E : List Int} (h0 : R [] ↔ S []) (hD : ∀ c, c ∈ D ↔ ∃ w, R (c :: w)) (hE : E.Nodup) (hE' : ∀ c, c ∈ E ↔ ∃ w, S (c :: w)) (hl : D.length = E.length) (hst : ∀ c ∈ E, c ∈ D ∧ (fun w => R (c :: w)) = fun w => S (c :: w)) : R = S := by
  have hsub := nd_eqI hE (fun x hx => (hst x hx).1) (by omega)
  funext w
  cases w with
  | nil => exact propext h0
  | cons c w =>
    by_cases hc : c ∈ E
    · exact congrFun (hst c hc).2 w
    · refine propext ⟨fun z => absurd (hsub c ((hD c).mpr ⟨w, z⟩)) hc, fun z => absurd ((hE' c).mpr ⟨w, z⟩) hc⟩
