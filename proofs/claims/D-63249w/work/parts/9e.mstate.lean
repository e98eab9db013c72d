set_option maxRecDepth 100000
/-! ===== KeyHallModel: state ===== -/
theorem StA.snoc {u v : Mem} {m : Nat} {SL : List (Nat × Int × Nat)} {s t : Nat} {c : Int} (h : StA u m SL) (hl : SL.length + 1 ≤ 580) (h27 : iv_ v m 27 = (SL.length : Int) + 1) (h23 : ∀ j : Int, iv_ v (m + 23) j = if j = (SL.length : Int) then (s : Int) else iv_ u (m + 23) j) (h24 : ∀ j : Int, iv_ v (m + 24) j = if j = (SL.length : Int) then c else iv_ u (m + 24) j) (h25 : ∀ j : Int, iv_ v (m + 25) j = if j = (SL.length : Int) then (t : Int) else iv_ u (m + 25) j) (hs : s < 580) (hc : 0 ≤ c ∧ c < 65536) (ht : t < 580) : StA v m (SL ++ [(s, c, t)]) := by
  obtain ⟨h1, h2, h3⟩ := h
  refine ⟨by rw [h27, List.length_append]; rfl, by rw [List.length_append]; simp; omega, fun j q hq => ?_⟩
  rw [h23, h24, h25]
  by_cases z : j < SL.length
  · rw [List.getElem?_append_left z] at hq
    rw [if_neg (by omega), if_neg (by omega), if_neg (by omega)]
    exact h3 j q hq
  · have hpl := (List.getElem?_eq_some_iff.mp hq).1
    rw [List.length_append] at hpl
    simp at hpl
    have hpe : j = SL.length := by omega
    rw [hpe, List.getElem?_concat_length] at hq
    cases hq
    rw [hpe, if_pos rfl, if_pos rfl, if_pos rfl]
    exact ⟨⟨rfl, hs⟩, ⟨rfl, hc⟩, ⟨rfl, ht⟩⟩
/-- the last writes of state -/
theorem FI.done {w v : Mem} {m p t : Nat} {Ks : List (List Int)} {PL : List (Nat × List Int)} {P : Nat × List Int} {Dn Dp : Nat → Prop} {RL : List (List Int → Prop)} {SL : List (Nat × Int × Nat)} {C Ps : List Nat} (h : FI w m Ks PL Dn Dp RL SL C Ps) (hL : HPL Ks PL) (hP : PL[p]? = some P) (ht : RL[t]? = some (res Ks P.2)) (hC : Cg m w v [28] [21]) (h21 : ∀ j : Int, iv_ v (m + 21) j = if j = (p : Int) then (t : Int) else iv_ w (m + 21) j) (h28 : (P.2 = [] ∧ iv_ v m 28 = (t : Int)) ∨ (P.2 ≠ [] ∧ iv_ v m 28 = iv_ w m 28)) : FI v m Ks PL (fun a => Dn a ∨ a = p) Dp RL SL C Ps := by
  obtain ⟨a1, ⟨a2, a3⟩, a4, a5, a6, a7, a8, a9⟩ := h
  refine ⟨a1, ⟨by rw [hC.2.1 26 (by decide)]; exact a2, ?_⟩, ?_, a5, ?_, a7, a8, ?_⟩
  · unfold StA at a3 ⊢
    rw [hC.2.1 27 (by decide), hC.2.2 23 (by decide) (by decide), hC.2.2 24 (by decide) (by decide), hC.2.2 25 (by decide) (by decide)]
    exact a3
  · rw [hC.2.2 22 (by decide) (by decide)]; exact a4
  · intro q Q hq hQ
    rw [h21]
    by_cases z : q = p
    · rw [z] at hQ
      rw [z, if_pos rfl]
      rw [hP] at hQ
      cases hQ
      exact ⟨t, rfl, ht⟩
    · rw [if_neg (by omega)]
      exact a6 q Q (hq.resolve_right z) hQ
  · intro q Q hq hQ he
    rcases h28 with ⟨z1, z2⟩ | ⟨z1, z2⟩
    · rw [z1] at ht
      exact ⟨t, z2, ht⟩
    · rw [z2]
      have hqp : q ≠ p := fun z => by
        rw [z, hP] at hQ
        cases hQ
        exact z1 he
      exact a9 q Q (hq.resolve_right hqp) hQ he
theorem c_mstate (l : Launch) (u : Mem) {m j p : Nat} {VL : List VS} {vs : VS} {M : Nat → List KV} {ch : Nat → Int} {PL : List (Nat × List Int)} {P : Nat × List Int} {Ks : List (List Int)} {Dn : Nat → Prop} {RL : List (List Int → Prop)} {SL : List (Nat × Int × Nat)} {C Ps : List Nat} (hm : MF u m) (hV : MV u m VL) (hM : MM u m M ch) (hj : VL[j]? = some vs) (hP : PrA u m (M vs.1) (64 * (vs.1 : Int)) PL) (hp : PL[p]? = some P) (hKs : ∀ s, s ∈ Ks ↔ vs.2.1 s ∧ ∃ kv ∈ M vs.1, kv.1 = s) (hL : HPL Ks PL) (hF : FI u m Ks PL Dn Dn RL SL C Ps) (hnp : ¬ Dn p) (hch : ∀ q, Fo PL P.2 q → Dn q) : Mt_ l yX13_state cX13_state 7 none 5 0 0 [aR m, aI (j : Int), aI (p : Int)] u (qV fun v => Cg m u v [26, 27, 28] [21, 22, 23, 24, 25] ∧ ∃ RL' SL' C' Ps', FI v m Ks PL (fun a => Dn a ∨ a = p) (fun a => Dn a ∨ a = p) RL' SL' C' Ps') := by
  have v3 := (hV.2.2 j vs hj).1
  have p1 := hP.1
  have p2 := hP.2.1
  have pl := (List.getElem?_eq_some_iff.mp hp).1
  obtain ⟨b1, b2, kvp, b3, b4⟩ := hP.2.2 p P hp
  have lp := b4.length_le
  have l8 := (hM.kt hm v3 b3).2.2.2.1
  have rb := hF.bd2 hnp pl
  obtain ⟨⟨f1, f2, f3, f4⟩, ⟨f5, f6⟩, f7, f8, f9, f10, f11, f12⟩ := hF
  have hF : FI u m Ks PL Dn Dn RL SL C Ps := ⟨⟨f1, f2, f3, f4⟩, ⟨f5, f6⟩, f7, f8, f9, f10, f11, f12⟩
  have hcc : ∀ (q : Nat) (Q : Nat × List Int) (c : Int), PL[q]? = some Q → Q.2 = P.2 ++ [c] → (fun q : Nat => iv_ u (m + 4) (8 * iv_ u (m + 19) (q : Int) + (P.2.length : Int))) q = c := fun q Q c hq he => (hP.letter hm hM v3 hq he).1
  have hso : ∀ (q : Nat) (Q : Nat × List Int) (c : Int), PL[q]? = some Q → Q.2 = P.2 ++ [c] → ∃ t : Nat, (fun q : Nat => iv_ u (m + 21) (q : Int)) q = (t : Int) ∧ RL[t]? = some (res Ks Q.2) := fun q Q c hq he => f9 q Q (hch q ⟨Q, c, hq, he⟩) hq
  have hso2 : ∀ (q : Nat) (Q : Nat × List Int) (c : Int), PL[q]? = some Q → Q.2 = P.2 ++ [c] → ∃ t : Nat, iv_ u (m + 21) (q : Int) = (t : Int) ∧ t < 580 := fun q Q c hq he => by
    obtain ⟨t, t1, t2⟩ := hso q Q c hq he
    exact ⟨t, t1, by have := (List.getElem?_eq_some_iff.mp t2).1; omega⟩
  refine Mt_of (by decide) (Nat.le_of_ble_eq_true rfl) (fun X ho hX hN hI => ?_)
  subst hX
  show Z X 0 [some (aR m), some (aI  (j : Int)), some (aI  (p : Int)), none, none, none, none] [] u 0 0
  have fin : ∀ (w : Mem) (en n : Int) (t : Nat) (k : Int) (RL' : List (List Int → Prop)) (SL' : List (Nat × Int × Nat)) (C' Ps' : List Nat), Cg m u w [26, 27, 28] [21, 22, 23, 24, 25] → FI w m Ks PL Dn (fun a => Dn a ∨ a = p) RL' SL' C' Ps' → RL'[t]? = some (res Ks P.2) → Z X 244 [some (aR m), some (aI (j : Int)), some (aI (p : Int)), some (aI en), some (aI n), some (aI (t : Int)), some (aI k)] [] w 0 0 := by
    intro w en n t k RL' SL' C' Ps' hC hF' ht
    have hmw := hm.im hC.1
    have b2w : iv_ w (m + 20) (p : Int) = (P.2.length : Int) := by rw [hC.2.2 20 (by decide) (by decide)]; exact b2
    have b2w' : iv_ (wI_ w (m + 21) (p : Int) (t : Int)) (m + 20) (p : Int) = (P.2.length : Int) := by rw [ivf (by omega)]; exact b2w
    refine z_aload_n ho dX13_state_244 rfl ?_
    refine gX13_75 ho dX13_state_245 hmw.1 (mget hmw.r25 ?_)
    refine z_iload_n ho dX13_state_248 rfl ?_
    refine z_iload ho dX13_state_249 rfl ?_
    refine z_iast ho dX13_state_251 hmw.k21 (by omega) (hmw.t21 (by omega)) ?_
    refine z_aload_n ho dX13_state_252 rfl ?_
    refine gX13_72 ho dX13_state_253 hmw.1 (mget hmw.r24 ?_)
    refine z_iload_n ho dX13_state_256 rfl ?_
    refine z_iald ho dX13_state_257 hmw.k20 (by omega) (hmw.t20 (by omega)) ?_
    refine z_if_ne (tgt := 267) ho dX13_state_258 (by decide) (by rw [b2w']; unfold rng; omega) (fun c258 => ?_) (fun c258 => ?_)
    · 
      refine r_V ho dX13_state_267 (Nat.le_of_ble_eq_true rfl) (Nat.le_of_ble_eq_true rfl) ?_
      refine ⟨hC.a 21 _ _ (by decide) (by decide) (by decide), RL', SL', C', Ps', hF'.done hL hp ht ((Cg.rf m w _ _).a 21 _ _ (by decide) (by decide) (by decide)) (fun i => ?_) (Or.inr ⟨fun z => ?_, by rw [ivf (by omega)]⟩)⟩
      · rw [iv_wI]
        by_cases z : i = (p : Int)
        · rw [if_pos ⟨rfl, z⟩, if_pos z]
        · rw [if_neg (fun y => z y.2), if_neg z]
      · rw [b2w', z] at c258
        exact c258 rfl
    · have hm2 := hmw.im ((Cg.rf m w [28] [21]).a 21 (p : Int) (t : Int) (by decide) (by decide) (by decide)).1
      refine z_aload_n ho dX13_state_261 rfl ?_
      refine z_iload ho dX13_state_262 rfl ?_
      refine pX13_202 ho dX13_state_264 hm2.1  ?_
      refine r_V ho dX13_state_267 (Nat.le_of_ble_eq_true rfl) (Nat.le_of_ble_eq_true rfl) ?_
      refine ⟨(hC.a 21 _ _ (by decide) (by decide) (by decide)).f 28 _ (by decide), RL', SL', C', Ps', hF'.done hL hp ht (((Cg.rf m w _ _).a 21 _ _ (by decide) (by decide) (by decide)).f 28 _ (by decide)) (fun i => ?_) (Or.inl ⟨?_, by rw [iv_wI, if_pos ⟨rfl, rfl⟩]⟩)⟩
      · rw [ivf (by omega), iv_wI]
        by_cases z : i = (p : Int)
        · rw [if_pos ⟨rfl, z⟩, if_pos z]
        · rw [if_neg (fun y => z y.2), if_neg z]
      · rw [b2w'] at c258
        exact List.length_eq_zero_iff.mp (by omega)
  have mk : ∀ (en n k0 : Int), qB en (P.2 ∈ Ks) → res Ks P.2 ∉ RL → Z X 121 [some (aR m), some (aI (j : Int)), some (aI (p : Int)), some (aI en), some (aI n), some (aI (-1)), some (aI k0)] [] u 0 0 := by
    intro en n k0 hen hnew
    obtain ⟨g1, g2, g3, g4⟩ := grow_ (so := fun q => (iv_ u (m + 21) (q : Int)).toNat) (cc := fun q => iv_ u (m + 4) (8 * iv_ u (m + 19) (q : Int) + (P.2.length : Int))) hL f1 f2 f3 f4 hnew hcc (fun q Q c hq he => by
      obtain ⟨t, t1, t2⟩ := hso q Q c hq he
      have t1' : iv_ u (m + 21) (q : Int) = (t : Int) := t1
      show RL[(iv_ u (m + 21) (q : Int)).toNat]? = _
      rw [t1', Int.toNat_natCast]
      exact t2)
    have key : ∀ (d k : Nat) (w : Mem), d + k = PL.length → Cg m u w [26, 27] [22, 23, 24, 25] → iv_ w m 26 = (RL.length : Int) + 1 → (∀ i : Int, iv_ w (m + 22) i = if i = (RL.length : Int) then en else iv_ u (m + 22) i) → StA w m (SL ++ (Bk PL P.2 k).map (fun q : Nat => (RL.length, iv_ u (m + 4) (8 * iv_ u (m + 19) (q : Int) + (P.2.length : Int)), (iv_ u (m + 21) (q : Int)).toNat))) → Z X 148 [some (aR m), some (aI (j : Int)), some (aI (p : Int)), some (aI en), some (aI n), some (aI (RL.length : Int)), some (aI (k : Int))] [] w 0 0 := by
      intro d
      induction d with
      | zero =>
        intro k w hk hC h26 h22 hS
        have hmw := hm.im hC.1
        have p1w : iv_ w m 22 = (PL.length : Int) := by rw [hC.2.1 22 (by decide)]; exact p1
        have hk' : k = PL.length := by omega
        refine z_iload ho dX13_state_148 rfl ?_
        refine z_aload_n ho dX13_state_150 rfl ?_
        refine gX13_193 ho dX13_state_151 hmw.1 ?_
        refine z_icmp_ge (tgt := 244) ho dX13_state_154 (by decide) (by unfold rng; omega) (by rw [p1w]; unfold rng; omega) (fun c154 => ?_) (fun c154 => ?_)
        · rw [hk'] at hS
          refine fin w en n RL.length (k : Int) (RL ++ [res Ks P.2]) _ (C ++ Bk PL P.2 PL.length) (Ps ++ [p]) (hC.mono (by decide) (by decide)) ⟨⟨g1, g2, g3, g4⟩, ⟨by rw [h26, List.length_append]; rfl, hS⟩, ?_, ?_, ?_, ?_, ?_, ?_⟩ List.getElem?_concat_length
          · intro i R hR
            rw [h22]
            by_cases z : i < RL.length
            · rw [List.getElem?_append_left z] at hR
              rw [if_neg (by omega)]
              exact f7 i R hR
            · have hpl := (List.getElem?_eq_some_iff.mp hR).1
              rw [List.length_append] at hpl
              simp at hpl
              have hpe : i = RL.length := by omega
              rw [hpe, List.getElem?_concat_length] at hR
              cases hR
              rw [hpe, if_pos rfl]
              unfold res
              rw [List.append_nil]
              exact hen
          · intro R hR
            rcases List.mem_append.mp hR with z | z
            · exact f8 R z
            · simp at z
              exact ⟨p, P, hp, z⟩
          · intro q Q hq hQ
            rw [hC.2.2 21 (by decide) (by decide)]
            obtain ⟨t, t1, t2⟩ := f9 q Q hq hQ
            exact ⟨t, t1, by rw [List.getElem?_append_left (List.getElem?_eq_some_iff.mp t2).1]; exact t2⟩
          · refine ⟨(hF.bd3 hL hnp hp PL.length).1, by rw [List.length_append, List.length_append, List.length_map, f10.2.1], fun q hq => ?_⟩
            rcases List.mem_append.mp hq with z | z
            · obtain ⟨Q, a, A, c, q1, q2, q3, q4⟩ := f10.2.2 q z
              exact ⟨Q, a, A, c, q1, Or.inl q2, q3, q4⟩
            · obtain ⟨-, Q, c, q1, q2⟩ := Bk.mem.mp z
              exact ⟨Q, p, P, c, q1, Or.inr rfl, hp, q2⟩
          · refine ⟨List.nodup_append.mpr ⟨f11.1, by simp, fun a ha b hb e => ?_⟩, by rw [List.length_append, List.length_append, f11.2.1]; rfl, fun a ha => ?_⟩
            · simp at hb
              exact hnp (by rw [← hb, ← e]; exact (f11.2.2 a ha).1)
            · rcases List.mem_append.mp ha with z | z
              · exact ⟨Or.inl (f11.2.2 a z).1, (f11.2.2 a z).2⟩
              · simp at z
                rw [z]
                exact ⟨Or.inr rfl, pl⟩
          · intro q Q hq hQ he
            rw [hC.2.1 28 (by decide)]
            obtain ⟨t, t1, t2⟩ := f12 q Q hq hQ he
            exact ⟨t, t1, by rw [List.getElem?_append_left (List.getElem?_eq_some_iff.mp t2).1]; exact t2⟩
        · omega
      | succ d ih =>
        intro k w hk hC h26 h22 hS
        have hmw := hm.im hC.1
        have hMw := hM.cg hC (by decide)
        have hPw := hP.cg hC (by decide) (by decide)
        have p1w : iv_ w m 22 = (PL.length : Int) := by rw [hC.2.1 22 (by decide)]; exact p1
        have hkq : PL[k]? = some PL[k] := List.getElem?_eq_getElem (by omega)
        generalize PL[k] = Q at hkq
        have bl := hF.bd4 hL hnp hp (k + 1)
        refine z_iload ho dX13_state_148 rfl ?_
        refine z_aload_n ho dX13_state_150 rfl ?_
        refine gX13_193 ho dX13_state_151 hmw.1 ?_
        refine z_icmp_ge (tgt := 244) ho dX13_state_154 (by decide) (by unfold rng; omega) (by rw [p1w]; unfold rng; omega) (fun c154 => ?_) (fun c154 => ?_)
        · omega
        · 
          refine z_aload_n ho dX13_state_157 rfl ?_
          refine z_iload ho dX13_state_158 rfl ?_
          refine z_iload_n ho dX13_state_160 rfl ?_
          refine kX13_217 ho hN (c_follows _ _ hmw hMw v3 hPw hkq hp) dX13_state_161 hmw.1 (Nat.le_of_ble_eq_true rfl) (Nat.le_of_ble_eq_true rfl) (Nat.le_of_ble_eq_true rfl) (Nat.le_of_ble_eq_true rfl) (fun x161 u161 h161 => ?_)
          obtain ⟨rfl, hf⟩ := h161
          refine z_if_ne (tgt := 170) ho dX13_state_164 (by decide) (by rcases hf with ⟨z, -⟩ | ⟨z, -⟩ <;> rw [z] <;> unfold rng <;> omega) (fun c164 => ?_) (fun c164 => ?_)
          · obtain ⟨c, hc⟩ := (hf.resolve_right (fun y => c164 y.1)).2
            have hy : Fo PL P.2 k := ⟨Q, c, hkq, hc⟩
            obtain ⟨l1, l2, l3, l4, l5⟩ := hP.letter hm hM v3 hkq hc
            obtain ⟨t0, ht0, ht0'⟩ := hso2 k Q c hkq hc
            have e4 : iv_ w (m + 4) = iv_ u (m + 4) := hC.2.2 4 (by decide) (by decide)
            have e19 : iv_ w (m + 19) = iv_ u (m + 19) := hC.2.2 19 (by decide) (by decide)
            have e20 : iv_ w (m + 20) = iv_ u (m + 20) := hC.2.2 20 (by decide) (by decide)
            have e21 : iv_ w (m + 21) = iv_ u (m + 21) := hC.2.2 21 (by decide) (by decide)
            have e27 := hS.1
            rw [List.length_append, List.length_map] at e27
            rw [Bk.y hy, List.length_append] at bl
            simp at bl
            have bl' : (SL.length : Int) + (Bk PL P.2 k).length + 1 ≤ 400 := by omega
            have q19 : iv_ w (m + 19) (k : Int) = iv_ u (m + 19) (k : Int) := by rw [e19]
            have q20 : iv_ w (m + 20) (p : Int) = (P.2.length : Int) := by rw [e20]; exact b2
            have q4 : iv_ w (m + 4) (8 * iv_ u (m + 19) (k : Int) + (P.2.length : Int)) = c := by rw [e4]; exact l1
            have q21 : iv_ w (m + 21) (k : Int) = (t0 : Int) := by rw [e21]; exact ht0
            generalize hn0 : SL.length + (Bk PL P.2 k).length = n0 at *
            have e27' : iv_ w m 27 = (n0 : Int) := e27
            refine z_aload_n ho dX13_state_170 rfl ?_
            refine gX13_81 ho dX13_state_171 hmw.1 (mget hmw.r30 ?_)
            refine z_aload_n ho dX13_state_174 rfl ?_
            refine gX13_199 ho dX13_state_175 hmw.1 ?_
            rw [e27']
            refine z_iload ho dX13_state_178 rfl ?_
            refine z_iast ho dX13_state_180 hmw.k23 (by omega) (hmw.t23 (by omega)) ?_
            refine z_aload_n ho dX13_state_181 rfl ?_
            refine gX13_84 ho dX13_state_182 hmw.1 (mget hmw.r31 ?_)
            refine z_aload_n ho dX13_state_185 rfl ?_
            refine gX13_199 ho dX13_state_186 hmw.1 ?_
            rw [show iv_ (wI_ w (m + 23) (n0 : Int) (RL.length : Int)) m 27 = (n0 : Int) by rw [ivf (by omega)]; exact e27']
            refine z_aload_n ho dX13_state_189 rfl ?_
            refine gX13_19 ho dX13_state_190 hmw.1 (mget hmw.r5 ?_)
            refine z_bipush ho dX13_state_193 rfl ?_
            refine z_aload_n ho dX13_state_195 rfl ?_
            refine gX13_69 ho dX13_state_196 hmw.1 (mget hmw.r23 ?_)
            refine z_iload ho dX13_state_199 rfl ?_
            refine z_iald ho dX13_state_201 hmw.k19 (by omega) (hmw.t19 (by omega)) ?_
            rw [show iv_ (wI_ w (m + 23) (n0 : Int) (RL.length : Int)) (m + 19) (k : Int) = iv_ u (m + 19) (k : Int) by rw [ivf (by omega)]; exact q19]
            refine z_imul ho dX13_state_202 ?_
            refine z_aload_n ho dX13_state_203 rfl ?_
            refine gX13_72 ho dX13_state_204 hmw.1 (mget hmw.r24 ?_)
            refine z_iload_n ho dX13_state_207 rfl ?_
            refine z_iald ho dX13_state_208 hmw.k20 (by omega) (hmw.t20 (by omega)) ?_
            rw [show iv_ (wI_ w (m + 23) (n0 : Int) (RL.length : Int)) (m + 20) (p : Int) = (P.2.length : Int) by rw [ivf (by omega)]; exact q20]
            refine z_iadd ho dX13_state_209 ?_
            refine z_iald ho dX13_state_210 hmw.k4 (by omega) (hmw.t4 (by omega)) ?_
            rw [show iv_ (wI_ w (m + 23) (n0 : Int) (RL.length : Int)) (m + 4) (8 * iv_ u (m + 19) (k : Int) + (P.2.length : Int)) = c by rw [ivf (by omega)]; exact q4]
            refine z_iast ho dX13_state_211 hmw.k24 (by omega) (hmw.t24 (by omega)) ?_
            refine z_aload_n ho dX13_state_212 rfl ?_
            refine gX13_87 ho dX13_state_213 hmw.1 (mget hmw.r32 ?_)
            refine z_aload_n ho dX13_state_216 rfl ?_
            refine gX13_199 ho dX13_state_217 hmw.1 ?_
            rw [show iv_ (wI_ (wI_ w (m + 23) (n0 : Int) (RL.length : Int)) (m + 24) (n0 : Int) c) m 27 = (n0 : Int) by rw [ivf (by omega), ivf (by omega)]; exact e27']
            refine z_aload_n ho dX13_state_220 rfl ?_
            refine gX13_75 ho dX13_state_221 hmw.1 (mget hmw.r25 ?_)
            refine z_iload ho dX13_state_224 rfl ?_
            refine z_iald ho dX13_state_226 hmw.k21 (by omega) (hmw.t21 (by omega)) ?_
            rw [show iv_ (wI_ (wI_ w (m + 23) (n0 : Int) (RL.length : Int)) (m + 24) (n0 : Int) c) (m + 21) (k : Int) = (t0 : Int) by rw [ivf (by omega), ivf (by omega)]; exact q21]
            refine z_iast ho dX13_state_227 hmw.k25 (by omega) (hmw.t25 (by omega)) ?_
            refine z_aload_n ho dX13_state_228 rfl ?_
            refine z_dup ho dX13_state_229 rfl ?_
            refine gX13_199 ho dX13_state_230 hmw.1 ?_
            rw [show iv_ (wI_ (wI_ (wI_ w (m + 23) (n0 : Int) (RL.length : Int)) (m + 24) (n0 : Int) c) (m + 25) (n0 : Int) (t0 : Int)) m 27 = (n0 : Int) by rw [ivf (by omega), ivf (by omega), ivf (by omega)]; exact e27']
            refine z_iconst ho dX13_state_233 ?_
            refine z_iadd ho dX13_state_234 ?_
            refine pX13_199 ho dX13_state_235 hmw.1  ?_
            have cF : Cg m u (wI_ (wI_ (wI_ (wI_ w (m + 23) (n0 : Int) (RL.length : Int)) (m + 24) (n0 : Int) c) (m + 25) (n0 : Int) (t0 : Int)) m 27 ((n0 : Int) + 1)) [26, 27] [22, 23, 24, 25] := (((hC.a 23 _ _ (by decide) (by decide) (by decide)).a 24 _ _ (by decide) (by decide) (by decide)).a 25 _ _ (by decide) (by decide) (by decide)).f 27 _ (by decide)
            have x26 : iv_ (wI_ (wI_ (wI_ (wI_ w (m + 23) (n0 : Int) (RL.length : Int)) (m + 24) (n0 : Int) c) (m + 25) (n0 : Int) (t0 : Int)) m 27 ((n0 : Int) + 1)) m 26 = iv_ w m 26 := by
              rw [iv_wI, if_neg (by omega), ivf (by omega), ivf (by omega), ivf (by omega)]
            have x27 : iv_ (wI_ (wI_ (wI_ (wI_ w (m + 23) (n0 : Int) (RL.length : Int)) (m + 24) (n0 : Int) c) (m + 25) (n0 : Int) (t0 : Int)) m 27 ((n0 : Int) + 1)) m 27 = (n0 : Int) + 1 := by rw [iv_wI, if_pos ⟨rfl, rfl⟩]
            have x22 : iv_ (wI_ (wI_ (wI_ (wI_ w (m + 23) (n0 : Int) (RL.length : Int)) (m + 24) (n0 : Int) c) (m + 25) (n0 : Int) (t0 : Int)) m 27 ((n0 : Int) + 1)) (m + 22) = iv_ w (m + 22) := by
              rw [ivf (by omega), ivf (by omega), ivf (by omega), ivf (by omega)]
            have x23 : ∀ i : Int, iv_ (wI_ (wI_ (wI_ (wI_ w (m + 23) (n0 : Int) (RL.length : Int)) (m + 24) (n0 : Int) c) (m + 25) (n0 : Int) (t0 : Int)) m 27 ((n0 : Int) + 1)) (m + 23) i = if i = (n0 : Int) then (RL.length : Int) else iv_ w (m + 23) i := fun i => by
              rw [ivf (by omega), ivf (by omega), ivf (by omega), iv_wI]
              by_cases z : i = (n0 : Int)
              · rw [if_pos ⟨rfl, z⟩, if_pos z]
              · rw [if_neg (fun y => z y.2), if_neg z]
            have x24 : ∀ i : Int, iv_ (wI_ (wI_ (wI_ (wI_ w (m + 23) (n0 : Int) (RL.length : Int)) (m + 24) (n0 : Int) c) (m + 25) (n0 : Int) (t0 : Int)) m 27 ((n0 : Int) + 1)) (m + 24) i = if i = (n0 : Int) then c else iv_ w (m + 24) i := fun i => by
              rw [ivf (by omega), ivf (by omega), iv_wI, ivf (by omega)]
              by_cases z : i = (n0 : Int)
              · rw [if_pos ⟨rfl, z⟩, if_pos z]
              · rw [if_neg (fun y => z y.2), if_neg z]
            have x25 : ∀ i : Int, iv_ (wI_ (wI_ (wI_ (wI_ w (m + 23) (n0 : Int) (RL.length : Int)) (m + 24) (n0 : Int) c) (m + 25) (n0 : Int) (t0 : Int)) m 27 ((n0 : Int) + 1)) (m + 25) i = if i = (n0 : Int) then (t0 : Int) else iv_ w (m + 25) i := fun i => by
              rw [ivf (by omega), iv_wI, ivf (by omega), ivf (by omega)]
              by_cases z : i = (n0 : Int)
              · rw [if_pos ⟨rfl, z⟩, if_pos z]
              · rw [if_neg (fun y => z y.2), if_neg z]
            generalize wI_ (wI_ (wI_ (wI_ w (m + 23) (n0 : Int) (RL.length : Int)) (m + 24) (n0 : Int) c) (m + 25) (n0 : Int) (t0 : Int)) m 27 ((n0 : Int) + 1) = w2 at *
            have lS : (SL ++ (Bk PL P.2 k).map (fun q : Nat => (RL.length, iv_ u (m + 4) (8 * iv_ u (m + 19) (q : Int) + (P.2.length : Int)), (iv_ u (m + 21) (q : Int)).toNat))).length = n0 := by rw [List.length_append, List.length_map]; exact hn0
            have hS2 := hS.snoc (v := w2) (s := RL.length) (t := t0) (c := c) (by omega) (by rw [lS]; exact x27) (by rw [lS]; exact x23) (by rw [lS]; exact x24) (by rw [lS]; exact x25) (by omega) l2 ht0'
            refine z_iinc ho dX13_state_238 rfl rfl ?_
            refine z_goto (tgt := 148) ho dX13_state_241 (by decide) ?_
            refine ih (k + 1) w2 (by omega) cF (by rw [x26]; exact h26) (by rw [x22]; exact h22) ?_
            rw [Bk.y hy, List.map_append, ← List.append_assoc]
            rw [List.map_cons, List.map_nil, ht0, l1, Int.toNat_natCast]
            exact hS2
          · have hno : ¬ Fo PL P.2 k := fun ⟨Q', c, h1, h2⟩ => by
              rw [hkq] at h1
              cases h1
              exact (hf.resolve_left (fun y => by omega)).2 ⟨c, h2⟩
            refine z_goto (tgt := 238) ho dX13_state_167 (by decide) ?_
            refine z_iinc ho dX13_state_238 rfl rfl ?_
            refine z_goto (tgt := 148) ho dX13_state_241 (by decide) ?_
            refine ih (k + 1) w (by omega) hC h26 h22 ?_
            rw [Bk.n hno]
            exact hS
    have ren : rng en := by rcases hen with ⟨z, -⟩ | ⟨z, -⟩ <;> rw [z] <;> unfold rng <;> omega
    have ben : en = 0 ∨ en = 1 := by rcases hen with ⟨z, -⟩ | ⟨z, -⟩ <;> omega
    refine z_aload_n ho dX13_state_121 rfl ?_
    refine gX13_196 ho dX13_state_122 hm.1 ?_
    rw [f5]
    refine z_istore ho dX13_state_125 (Nat.le_of_ble_eq_true rfl) rfl ?_
    refine z_aload_n ho dX13_state_127 rfl ?_
    refine z_dup ho dX13_state_128 rfl ?_
    refine gX13_196 ho dX13_state_129 hm.1 ?_
    rw [f5]
    refine z_iconst ho dX13_state_132 ?_
    refine z_iadd ho dX13_state_133 ?_
    refine pX13_196 ho dX13_state_134 hm.1  ?_
    have c1 : Cg m u (wI_ u m 26 ((RL.length : Int) + 1)) [26, 27] [22, 23, 24, 25] := (Cg.rf m u _ _).f 26 _ (by decide)
    have hm1 := hm.im c1.1
    refine z_aload_n ho dX13_state_137 rfl ?_
    refine gX13_78 ho dX13_state_138 hm1.1 (mget hm1.r29 ?_)
    refine z_iload ho dX13_state_141 rfl ?_
    refine z_iload_n ho dX13_state_143 rfl ?_
    refine z_zast ho dX13_state_144 hm1.k22 (by omega) (hm1.t22 (by omega)) (by omega) ?_
    refine z_iconst ho dX13_state_145 ?_
    refine z_istore ho dX13_state_146 (Nat.le_of_ble_eq_true rfl) rfl ?_
    refine key PL.length 0 _ rfl (c1.a 22 _ _ (by decide) (by decide) (by decide)) (by rw [ivf (by omega), iv_wI, if_pos ⟨rfl, rfl⟩]) (fun i => ?_) ?_
    · rw [iv_wI, ivf (by omega)]
      by_cases z : i = (RL.length : Int)
      · rw [if_pos ⟨rfl, z⟩, if_pos z]
      · rw [if_neg (fun y => z y.2), if_neg z]
    · have : Bk PL P.2 0 = [] := rfl
      rw [this, List.map_nil, List.append_nil]
      unfold StA
      rw [ivf (by omega), iv_wI, if_neg (by omega), ivf (by omega), ivf (by omega), ivf (by omega), ivf (by omega), ivf (by omega), ivf (by omega)]
      exact f6
  have srch : ∀ (en : Int), qB en (P.2 ∈ Ks) → ∀ (d s : Nat), d + s = RL.length → (∀ (s' : Nat) R, s' < s → RL[s']? = some R → R ≠ res Ks P.2) → Z X 54 [some (aR m), some (aI (j : Int)), some (aI (p : Int)), some (aI en), some (aI ((Bk PL P.2 PL.length).length : Nat)), some (aI (-1)), some (aI (s : Int))] [] u 0 0 := by
    intro en hen d
    have ren : rng en := by rcases hen with ⟨z, -⟩ | ⟨z, -⟩ <;> rw [z] <;> unfold rng <;> omega
    have bl := Bk.len PL P.2 PL.length
    induction d with
    | zero =>
      intro s hs hno
      refine z_iload ho dX13_state_54 rfl ?_
      refine z_aload_n ho dX13_state_56 rfl ?_
      refine gX13_196 ho dX13_state_57 hm.1 ?_
      refine z_icmp_ge (tgt := 115) ho dX13_state_60 (by decide) (by unfold rng; omega) (by rw [f5]; unfold rng; omega) (fun c60 => ?_) (fun c60 => ?_)
      · 
        refine z_iload ho dX13_state_115 rfl ?_
        refine z_iconst ho dX13_state_117 ?_
        refine z_icmp_ne (tgt := 244) ho dX13_state_118 (by decide) (by unfold rng; omega) (by unfold rng; omega) (fun c118 => ?_) (fun c118 => ?_)
        · exact absurd rfl c118
        · refine mk en _ _ hen (fun z => ?_)
          obtain ⟨s', h1, h2⟩ := List.mem_iff_getElem.mp z
          exact hno s' _ (by omega) (by rw [List.getElem?_eq_getElem h1]) h2
      · rw [f5] at c60; omega
    | succ d ih =>
      intro s hs hno
      have hsR : RL[s]? = some RL[s] := List.getElem?_eq_getElem (by omega)
      generalize RL[s] = R at hsR
      have tst := test_ (so := fun q : Nat => iv_ u (m + 21) (q : Int)) (cc := fun q : Nat => iv_ u (m + 4) (8 * iv_ u (m + 19) (q : Int) + (P.2.length : Int))) hL f1 f2 f3 f4 hsR hcc hso
      have hfin := f7 s R hsR
      have sl := List.length_filter_le (fun q : Nat × Int × Nat => q.1 == s) SL
      have s580 := f6.2.1
      have no : R ≠ res Ks P.2 → Z X 106 [some (aR m), some (aI (j : Int)), some (aI (p : Int)), some (aI en), some (aI ((Bk PL P.2 PL.length).length : Nat)), some (aI (-1)), some (aI (s : Int))] [] u 0 0 := fun hn => by
        refine z_iconst ho dX13_state_106 ?_
        refine z_istore ho dX13_state_107 (Nat.le_of_ble_eq_true rfl) rfl ?_
        refine z_iinc ho dX13_state_109 rfl rfl ?_
        refine z_goto (tgt := 54) ho dX13_state_112 (by decide) ?_
        refine ih (s + 1) (by omega) (fun s' R' h1 h2 => ?_)
        rcases lt_or_eq' h1 with z | z
        · exact hno s' R' z h2
        · rw [z, hsR] at h2; cases h2; exact hn
      have yes : R = res Ks P.2 → Z X 101 [some (aR m), some (aI (j : Int)), some (aI (p : Int)), some (aI en), some (aI ((Bk PL P.2 PL.length).length : Nat)), some (aI (-1)), some (aI (s : Int))] [] u 0 0 := fun hy => by
        have go : Z X 115 [some (aR m), some (aI (j : Int)), some (aI (p : Int)), some (aI en), some (aI ((Bk PL P.2 PL.length).length : Nat)), some (aI (s : Int)), some (aI ((s : Int) + 1))] [] u 0 0 := by
          refine z_iload ho dX13_state_115 rfl ?_
          refine z_iconst ho dX13_state_117 ?_
          refine z_icmp_ne (tgt := 244) ho dX13_state_118 (by decide) (by unfold rng; omega) (by unfold rng; omega) (fun c118 => ?_) (fun c118 => ?_)
          · refine fin u en _ s _ RL SL C Ps (Cg.rf m u _ _) ⟨⟨f1, f2, f3, f4⟩, ⟨f5, f6⟩, f7, f8, f9, ⟨f10.1, f10.2.1, fun q hq => ?_⟩, ⟨f11.1, f11.2.1, fun a ha => ⟨Or.inl (f11.2.2 a ha).1, (f11.2.2 a ha).2⟩⟩, f12⟩ (by rw [← hy]; exact hsR)
            obtain ⟨Q, a, A, c, q1, q2, q3, q4⟩ := f10.2.2 q hq
            exact ⟨Q, a, A, c, q1, Or.inl q2, q3, q4⟩
          · omega
        refine z_iload ho dX13_state_101 rfl ?_
        refine z_goto (tgt := 107) ho dX13_state_103 (by decide) ?_
        refine z_istore ho dX13_state_107 (Nat.le_of_ble_eq_true rfl) rfl ?_
        refine z_iinc ho dX13_state_109 rfl rfl ?_
        refine z_goto (tgt := 54) ho dX13_state_112 (by decide) ?_
        refine z_iload ho dX13_state_54 rfl ?_
        refine z_aload_n ho dX13_state_56 rfl ?_
        refine gX13_196 ho dX13_state_57 hm.1 ?_
        refine z_icmp_ge (tgt := 115) ho dX13_state_60 (by decide) (by unfold rng; omega) (by rw [f5]; unfold rng; omega) (fun c60 => ?_) (fun c60 => ?_)
        · exact go
        · 
          refine z_iload ho dX13_state_63 rfl ?_
          refine z_iconst ho dX13_state_65 ?_
          refine z_icmp_ne (tgt := 115) ho dX13_state_66 (by decide) (by unfold rng; omega) (by unfold rng; omega) (fun c66 => ?_) (fun c66 => ?_)
          · exact go
          · omega
      refine z_iload ho dX13_state_54 rfl ?_
      refine z_aload_n ho dX13_state_56 rfl ?_
      refine gX13_196 ho dX13_state_57 hm.1 ?_
      refine z_icmp_ge (tgt := 115) ho dX13_state_60 (by decide) (by unfold rng; omega) (by rw [f5]; unfold rng; omega) (fun c60 => ?_) (fun c60 => ?_)
      · rw [f5] at c60; omega
      · 
        refine z_iload ho dX13_state_63 rfl ?_
        refine z_iconst ho dX13_state_65 ?_
        refine z_icmp_ne (tgt := 115) ho dX13_state_66 (by decide) (by unfold rng; omega) (by unfold rng; omega) (fun c66 => ?_) (fun c66 => ?_)
        · exact absurd rfl c66
        · 
          refine z_aload_n ho dX13_state_69 rfl ?_
          refine gX13_78 ho dX13_state_70 hm.1 (mget hm.r29 ?_)
          refine z_iload ho dX13_state_73 rfl ?_
          refine z_zald ho dX13_state_75 hm.k22 (by omega) (hm.t22 (by omega)) ?_
          refine z_iload_n ho dX13_state_76 rfl ?_
          refine z_icmp_ne (tgt := 106) ho dX13_state_77 (by decide) (by rcases hfin with ⟨z, -⟩ | ⟨z, -⟩ <;> rw [z] <;> unfold rng <;> omega) ren (fun c77 => ?_) (fun c77 => ?_)
          · refine no (fun z => c77 ?_)
            have hb := (tst.mp z).1
            rcases hfin with ⟨a1, a2⟩ | ⟨a1, a2⟩
            · rcases hen with ⟨e1, e2⟩ | ⟨e1, e2⟩
              · rw [a1, e1]
              · exact absurd (hb.mp a2) e2
            · rcases hen with ⟨e1, e2⟩ | ⟨e1, e2⟩
              · exact absurd (hb.mpr e2) a2
              · rw [a1, e1]
          · have hb : R [] ↔ P.2 ∈ Ks := by
              rcases hfin with ⟨a1, a2⟩ | ⟨a1, a2⟩
              · rcases hen with ⟨e1, e2⟩ | ⟨e1, e2⟩
                · exact ⟨fun _ => e2, fun _ => a2⟩
                · omega
              · rcases hen with ⟨e1, e2⟩ | ⟨e1, e2⟩
                · omega
                · exact ⟨fun z => absurd z a2, fun z => absurd z e2⟩
            refine z_aload_n ho dX13_state_80 rfl ?_
            refine z_iload ho dX13_state_81 rfl ?_
            refine kX13_220 ho hN (c_stepsOf _ _ hm f6 (by omega)) dX13_state_83 hm.1 (Nat.le_of_ble_eq_true rfl) (Nat.le_of_ble_eq_true rfl) (Nat.le_of_ble_eq_true rfl) (Nat.le_of_ble_eq_true rfl) (fun x83 u83 h83 => ?_)
            obtain ⟨rfl, rfl⟩ := h83
            refine z_iload ho dX13_state_86 rfl ?_
            refine z_icmp_ne (tgt := 106) ho dX13_state_88 (by decide) (by unfold rng; omega) (by unfold rng; omega) (fun c88 => ?_) (fun c88 => ?_)
            · exact no (fun z => c88 (by have := (tst.mp z).2.1; omega))
            · 
              refine z_aload_n ho dX13_state_91 rfl ?_
              refine z_iload ho dX13_state_92 rfl ?_
              refine z_iload_n ho dX13_state_94 rfl ?_
              refine kX13_223 ho hN (c_alike _ _ hm hM v3 hP f6 (f3.det f1 s) (by omega) hp hso2) dX13_state_95 hm.1 (Nat.le_of_ble_eq_true rfl) (Nat.le_of_ble_eq_true rfl) (Nat.le_of_ble_eq_true rfl) (Nat.le_of_ble_eq_true rfl) (fun x95 u95 h95 => ?_)
              obtain ⟨rfl, ha⟩ := h95
              refine z_if_eq (tgt := 106) ho dX13_state_98 (by decide) (by rcases ha with ⟨z, -⟩ | ⟨z, -⟩ <;> rw [z] <;> unfold rng <;> omega) (fun c98 => ?_) (fun c98 => ?_)
              · exact no (fun z => (ha.resolve_left (fun y => by omega)).2 (tst.mp z).2.2)
              · exact yes (tst.mpr ⟨hb, by omega, (ha.resolve_right (fun y => c98 y.1)).2⟩)
  have cnt_ : ∀ (en : Int), qB en (P.2 ∈ Ks) → ∀ (d k : Nat), d + k = PL.length → Z X 13 [some (aR m), some (aI (j : Int)), some (aI (p : Int)), some (aI en), some (aI ((Bk PL P.2 k).length : Nat)), some (aI (k : Int)), none] [] u 0 0 := by
    intro en hen d
    induction d with
    | zero =>
      intro k hk
      have hk' : k = PL.length := by omega
      refine z_iload ho dX13_state_13 rfl ?_
      refine z_aload_n ho dX13_state_15 rfl ?_
      refine gX13_193 ho dX13_state_16 hm.1 ?_
      refine z_icmp_ge (tgt := 48) ho dX13_state_19 (by decide) (by unfold rng; omega) (by rw [p1]; unfold rng; omega) (fun c19 => ?_) (fun c19 => ?_)
      · 
        refine z_iconst ho dX13_state_48 ?_
        refine z_istore ho dX13_state_49 (Nat.le_of_ble_eq_true rfl) rfl ?_
        refine z_iconst ho dX13_state_51 ?_
        refine z_istore ho dX13_state_52 (Nat.le_of_ble_eq_true rfl) rfl ?_
        rw [hk']
        exact srch en hen RL.length 0 rfl (fun s' R h1 => by omega)
      · omega
    | succ d ih =>
      intro k hk
      have hkq : PL[k]? = some PL[k] := List.getElem?_eq_getElem (by omega)
      generalize PL[k] = Q at hkq
      have bl := Bk.len PL P.2 k
      have t39 : ∀ b : Int, ((Bk PL P.2 k).length : Int) + b = ((Bk PL P.2 (k + 1)).length : Nat) → Z X 39 [some (aR m), some (aI (j : Int)), some (aI (p : Int)), some (aI en), some (aI ((Bk PL P.2 k).length : Nat)), some (aI (k : Int)), none] [aI b, aI ((Bk PL P.2 k).length : Nat)] u 0 0 := fun b hb => by
        have nx := ih (k + 1) (by omega)
        have bl' := Bk.len PL P.2 (k + 1)
        refine z_iadd ho dX13_state_39 ?_
        refine z_istore ho dX13_state_40 (Nat.le_of_ble_eq_true rfl) rfl ?_
        refine z_iinc ho dX13_state_42 rfl rfl ?_
        refine z_goto (tgt := 13) ho dX13_state_45 (by decide) ?_
        rw [hb]
        exact nx
      refine z_iload ho dX13_state_13 rfl ?_
      refine z_aload_n ho dX13_state_15 rfl ?_
      refine gX13_193 ho dX13_state_16 hm.1 ?_
      refine z_icmp_ge (tgt := 48) ho dX13_state_19 (by decide) (by unfold rng; omega) (by rw [p1]; unfold rng; omega) (fun c19 => ?_) (fun c19 => ?_)
      · omega
      · 
        refine z_iload ho dX13_state_22 rfl ?_
        refine z_aload_n ho dX13_state_24 rfl ?_
        refine z_iload ho dX13_state_25 rfl ?_
        refine z_iload_n ho dX13_state_27 rfl ?_
        refine kX13_217 ho hN (c_follows _ _ hm hM v3 hP hkq hp) dX13_state_28 hm.1 (Nat.le_of_ble_eq_true rfl) (Nat.le_of_ble_eq_true rfl) (Nat.le_of_ble_eq_true rfl) (Nat.le_of_ble_eq_true rfl) (fun x28 u28 h28 => ?_)
        obtain ⟨rfl, hf⟩ := h28
        refine z_if_eq (tgt := 38) ho dX13_state_31 (by decide) (by rcases hf with ⟨z, -⟩ | ⟨z, -⟩ <;> rw [z] <;> unfold rng <;> omega) (fun c31 => ?_) (fun c31 => ?_)
        · have hno : ¬ Fo PL P.2 k := fun ⟨Q', c, h1, h2⟩ => by
            rw [hkq] at h1
            cases h1
            exact (hf.resolve_left (fun y => by omega)).2 ⟨c, h2⟩
          refine z_iconst ho dX13_state_38 ?_
          exact t39 0 (by rw [Bk.n hno]; omega)
        · obtain ⟨c, hc⟩ := (hf.resolve_right (fun y => c31 y.1)).2
          refine z_iconst ho dX13_state_34 ?_
          refine z_goto (tgt := 39) ho dX13_state_35 (by decide) ?_
          exact t39 1 (by rw [Bk.y ⟨Q, c, hkq, hc⟩, List.length_append]; rfl)
  refine z_aload_n ho dX13_state_0 rfl ?_
  refine z_iload_n ho dX13_state_1 rfl ?_
  refine z_iload_n ho dX13_state_2 rfl ?_
  refine kX13_214 ho hN (c_endsAt _ _ hm hV hM hj hP hp hKs) dX13_state_3 hm.1 (Nat.le_of_ble_eq_true rfl) (Nat.le_of_ble_eq_true rfl) (Nat.le_of_ble_eq_true rfl) (Nat.le_of_ble_eq_true rfl) (fun x3 u3 h3 => ?_)
  obtain ⟨rfl, he⟩ := h3
  refine z_istore_n ho dX13_state_6 (Nat.le_of_ble_eq_true rfl) rfl ?_
  refine z_iconst ho dX13_state_7 ?_
  refine z_istore ho dX13_state_8 (Nat.le_of_ble_eq_true rfl) rfl ?_
  refine z_iconst ho dX13_state_10 ?_
  refine z_istore ho dX13_state_11 (Nat.le_of_ble_eq_true rfl) rfl ?_
  exact cnt_ _ he PL.length 0 rfl
