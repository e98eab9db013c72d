set_option maxRecDepth 100000
/-! ===== KeyHall.use, need, of, tell ===== -/
/-- the cells of the hall's three keys -/
def kC (x a : Nat) : Prop := a = x + 1 ∨ a = x + 2 ∨ a = x + 13 ∨ a = x + 14 ∨ a = x + 28 ∨ a = x + 29
/-- only the hall's keys change -/
theorem HS.keys {u v : Mem} {x : Nat} {tp fd tp' fd' h' : List Int} {M : Nat → List KV} {ch : Nat → Int} {VL : List VS} {Ks : List (List Int)} {T : List Int} {Os : List (List Int)} (h : HS u x tp fd M ch VL Ks T Os) (hw : Wf u) (hz : sz_ u ≤ sz_ v) (hkl : ∀ a, a < sz_ u → kd_ v a = kd_ u a ∧ ln_ v a = ln_ u a) (hs : ∀ a, a < sz_ u → ¬ kC x a → Sm u v a) (k1 : HK v (x + 1) tp') (k2 : HK v (x + 13) fd') (k3 : HK v (x + 28) h') : HS v x tp' fd' M ch VL Ks T Os := by
  obtain ⟨⟨g1, g2⟩, hF, ⟨t1, t2, -⟩, ⟨f1, f2, -⟩, ⟨h0, ⟨d1, d2, -⟩⟩, ⟨S, hT, hV⟩, hA, hX⟩ := h
  have kk : ∀ a, kC x a → kd_ u a = 2 ∨ kd_ u a = 101 := fun a ha => by
    rcases ha with z | z | z | z | z | z
    · rw [z]; exact Or.inl t2
    · rw [z]; exact Or.inr t1.2.2.1
    · rw [z]; exact Or.inl f2
    · rw [z]; exact Or.inr f1.2.2.1
    · rw [z]; exact Or.inl d2
    · rw [z]; exact Or.inr d1.2.2.1
  have far : ∀ a, x + 64 ≤ a → ¬ kC x a := fun a ha z => by unfold kC at z; omega
  have hK : Kp_ x u v := ⟨hz, hkl, fun a ha hE _ => hs a ha (far a hE)⟩
  have sx : ∀ a, a < x + 64 → ¬ kC x a → Sm u v a := fun a ha hn => hs a (by omega) hn
  refine ⟨⟨by omega, g2.1, fun a q1 q2 => by rw [(hkl a (by omega)).1]; exact g2.2 a q1 q2⟩, hF.same (sx x (by omega) (by unfold kC; omega)) ⟨(hkl _ (by omega)).1, (hkl _ (by omega)).2⟩, k1, k2, ⟨h', k3⟩, ⟨S, hT.same hw hK (fun i hi => ?_) (fun i a hi ha hsc => hs a ha (fun z => ?_)), hV.same hw hK (sx _ (by omega) (by unfold kC; omega)) (fun a ha hk => hs a ha (fun z => by have := kk a z; omega)) (fun _ => Int.le_refl _) (fun vs _ a _ _ z => ⟨z, fun y => y⟩)⟩, hA.same (fun a q1 q2 => sx a (by omega) (by unfold kC; omega)), hX.same hw hK (fun a ha hk => hs a ha (fun z => by have := kk a z; omega)) (fun a q1 q2 => sx a (by omega) (by unfold kC; omega))⟩
  · have : tA x i = x + 4 ∨ tA x i = x + 5 ∨ tA x i = x + 33 := by unfold tA; split; (· exact Or.inl rfl); split; (· exact Or.inr (Or.inl rfl)); exact Or.inr (Or.inr rfl)
    have s := sx (tA x i) (by omega) (by unfold kC; omega)
    exact ⟨s.2.2.2, s.2.2.1 0, s.2.2.1 1⟩
  · have := kk a z
    unfold Sc K5 at hsc
    omega
theorem HS.grow {u v : Mem} {x : Nat} {tp fd : List Int} {M : Nat → List KV} {ch : Nat → Int} {VL : List VS} {Ks : List (List Int)} {T : List Int} {Os : List (List Int)} (h : HS u x tp fd M ch VL Ks T Os) (hw : Wf u) (hz : sz_ u ≤ sz_ v) (hs : ∀ a, a < sz_ u → Sm u v a) : HS v x tp fd M ch VL Ks T Os := by
  have h' := h
  obtain ⟨⟨g1, g2⟩, hF, t1, f1, ⟨h0, d1⟩, -⟩ := h
  exact h'.keys hw hz (fun a ha => ⟨(hs a ha).1, (hs a ha).2.1⟩) (fun a ha _ => hs a ha) (t1.same (hs _ (by omega)) (hs _ (by omega))) (f1.same (hs _ (by omega)) (hs _ (by omega))) (d1.same (hs _ (by omega)) (hs _ (by omega)))
theorem c_use (l : Launch) (u : Mem) {x : Nat} {tp fd : List Int} {M : Nat → List KV} {ch : Nat → Int} {VL : List VS} {Ks : List (List Int)} {T : List Int} {Os : List (List Int)} (h : HS u x tp fd M ch VL Ks T Os) : Mt_ l yX1_use cX1_use 1 (some (.object "KeyHall$Key")) 1 0 0 [aR x] u (qR fun r v => r = x + 28 ∧ HK v (x + 28) tp ∧ HS v x [] fd M ch VL Ks T Os ∧ sz_ v = sz_ u ∧ (∀ a, a < sz_ u → kd_ v a = kd_ u a ∧ ln_ v a = ln_ u a) ∧ ∀ a, a ≠ x + 1 → a ≠ x + 28 → a ≠ x + 29 → Sm u v a) := by
  have h' := h
  obtain ⟨⟨g1, g2⟩, ⟨kx, q0, q1, q2, q3, q4, q5, q6, q7, q8, -⟩, ⟨t1, t2, t3⟩, f1, ⟨h0, ⟨d1, d2, d3⟩⟩, -⟩ := h
  refine Mt_of (by decide) (Nat.le_of_ble_eq_true rfl) (fun X ho hX hN hI => ?_)
  subst hX
  show Z X 0 [some (aR x)] [] u 0 0
  refine z_wf (fun hw => ?_)
  obtain ⟨c1, c2, c3, c4⟩ := cpy_facts d1.Kc t1 (by omega) d1.2.2.2.2.2.2
  have ex : ∀ i, rv_ (cpy u (x + 28) (x + 1)) x i = rv_ u x i := fun i => (c3 x (by omega) (by omega)).2.2.2 i
  have kx' : kd_ (cpy u (x + 28) (x + 1)) x = 1 := by rw [(c3 x (by omega) (by omega)).1]; exact kx
  have t1' : Ky (cpy u (x + 28) (x + 1)) (x + 1) := (t1.same (c3 _ (by omega) (by omega)) (c3 _ (by omega) (by omega))).1
  refine z_aload_n ho dX1_use_0 rfl ?_
  refine gX1_57 ho dX1_use_1 kx ?_
  rw [q8]
  refine z_aload_n ho dX1_use_4 rfl ?_
  refine gX1_10 ho dX1_use_5 kx ?_
  rw [q0]
  refine kX1_80 ho hN (c_copy _ _ d1.Kc t1 (by omega)) dX1_use_8 d1.1 (Nat.le_of_ble_eq_true rfl) (Nat.le_of_ble_eq_true rfl) (Nat.le_of_ble_eq_true rfl) (Nat.le_of_ble_eq_true rfl) (fun x8 u8 h8 => ?_)
  obtain ⟨rfl, rfl⟩ := h8
  refine z_pop ho dX1_use_11 rfl ?_
  refine z_aload_n ho dX1_use_12 rfl ?_
  refine gX1_10 ho dX1_use_13 kx' ?_
  rw [ex, q0]
  refine z_iconst ho dX1_use_16 ?_
  refine pX1_84 ho dX1_use_17 t1'.1  ?_
  refine z_aload_n ho dX1_use_20 rfl ?_
  refine gX1_57 ho dX1_use_21 (show kd_ (wI_ (cpy u (x + 28) (x + 1)) (x + 1) 1 0) x = 1 from kx') ?_
  rw [rv_wI, ex, q8]
  refine r_R ho dX1_use_24 (Nat.le_of_ble_eq_true rfl) (Nat.le_of_ble_eq_true rfl) ?_
  generalize hv : wI_ (cpy u (x + 28) (x + 1)) (x + 1) 1 0 = v
  have hs : ∀ a, a ≠ x + 1 → a ≠ x + 28 → a ≠ x + 29 → Sm u v a := fun a z1 z2 z3 => by rw [← hv]; exact (c3 a z2 z3).tr (Sm.wI z1)
  have hkl : ∀ a, kd_ v a = kd_ u a ∧ ln_ v a = ln_ u a := fun a => by rw [← hv]; exact ⟨rfl, rfl⟩
  have k3 : HK v (x + 28) tp := by
    have := c1.same (u' := v) (by rw [← hv]; exact Sm.wI (by omega)) (by rw [← hv]; exact Sm.wI (by omega))
    exact ⟨this.1, by rw [(hkl _).1]; exact d2, by rw [this.2, c2]; exact t3⟩
  have k1 : HK v (x + 1) [] := by
    obtain ⟨y1, y2, y3, y4, y5, y6, y7⟩ := t1'
    have e1 : iv_ v (x + 1) 1 = 0 := by rw [← hv, iv_wI, if_pos ⟨rfl, rfl⟩]
    have e2 : ∀ i, iv_ v (x + 1 + 1) i = iv_ (cpy u (x + 28) (x + 1)) (x + 1 + 1) i := fun i => by rw [← hv, iv_wI, if_neg (by omega)]
    refine ⟨⟨?_, ?_, ?_, ?_, by rw [e1]; decide, by rw [e1]; decide, fun i h0 h1 => by rw [e2]; exact y7 i h0 h1⟩, by rw [(hkl _).1]; exact t2, ?_⟩
    · rw [← hv]; exact y1
    · rw [← hv]; exact y2
    · rw [← hv]; exact y3
    · rw [← hv]; exact y4
    · unfold tx; rw [e1]; rfl
  have sz : sz_ v = sz_ u := by rw [← hv]; rfl
  refine ⟨rfl, k3, h'.keys hw (by omega) (fun a _ => hkl a) (fun a ha hn => hs a (fun z => hn (Or.inl z)) (fun z => hn (by unfold kC; simp [z])) (fun z => hn (by unfold kC; simp [z]))) k1 (f1.same (hs _ (by omega) (by omega) (by omega)) (hs _ (by omega) (by omega) (by omega))) k3, sz, fun a _ => hkl a, hs⟩
/-! rows: calls that throw -/
section TROWS
variable {X : Ctx_} {cc : ByteArray} {ret : Option FieldType} {d mc ms : Nat} {Q0 : Option AV → Mem → Prop} {Q Q' : Nat → Mem → Prop} {pc : Nat} {ls : List (Option AV)} {st : List AV} {u : Mem} {cu su d' mc' ms' : Nat}
theorem tX1_76 (ho : Ok_ X "KeyHall" cc ret d mc ms Q0) {x1 : Int} (hT : OkT_ X mc ms Q) (hN : Nl_ X ls.length) (hM : Th_ (La_ X) yX1_need cX1_need 1 none d' mc' ms' [aI x1] u Q') (hd : decode cc pc = .ok (.invokestatic 76, 3)) (hdp : d' + 1 ≤ d) (hcat : (st.map catA).sum ≤ 8) (hcm : cu + mc' ≤ mc) (hsm : su + ms' ≤ ms) (kk : ∀ (x : Nat) (u' : Mem), Q' x u' → Q x u') : Z X pc ls (aI x1 :: st) u cu su :=
  z_callST (n := 1) (idx := 76) ho hT hN hM q709 q710 q58 q711 (by decide) (by decide +kernel) rfl (by decide) hdp hd hcat hcm hsm rfl kk
theorem tX1_91 (ho : Ok_ X "KeyHall" cc ret d mc ms Q0) {b : Nat} {x1 : Int} (hT : OkT_ X mc ms Q) (hN : Nl_ X ls.length) (hM : Th_ (La_ X) yX1_of cX1_of 2 (some (.object "KeyHall$View")) d' mc' ms' [aR b, aI x1] u Q') (hd : decode cc pc = .ok (.invokevirtual 91, 3)) (hb : kd_ u b = 1) (hdp : d' + 1 ≤ d) (hcat : (st.map catA).sum ≤ 8) (hcm : cu + mc' ≤ mc) (hsm : su + ms' ≤ ms) (kk : ∀ (x : Nat) (u' : Mem), Q' x u' → Q x u') : Z X pc ls (aI x1 :: aR b :: st) u cu su :=
  z_callVT (n := 1) (idx := 91) (K := 1) (C := RX1) (TT := TX1) (N := 9) ho hT hN hM rfl (by decide) hb q705 q707 qs13 q58 q708 (by decide) (by decide +kernel) rfl (by decide) hdp hd hcat hcm hsm rfl kk
theorem tX1_174 (ho : Ok_ X "KeyHall" cc ret d mc ms Q0) {b x1 : Nat} (hT : OkT_ X mc ms Q) (hN : Nl_ X ls.length) (hM : Th_ (La_ X) yX1_tell cX1_tell 2 (some .int) d' mc' ms' [aR b, aR x1] u Q') (hd : decode cc pc = .ok (.invokevirtual 174, 3)) (hb : kd_ u b = 1) (hdp : d' + 1 ≤ d) (hcat : (st.map catA).sum ≤ 8) (hcm : cu + mc' ≤ mc) (hsm : su + ms' ≤ ms) (kk : ∀ (x : Nat) (u' : Mem), Q' x u' → Q x u') : Z X pc ls (aR x1 :: aR b :: st) u cu su :=
  z_callVT (n := 1) (idx := 174) (K := 1) (C := RX1) (TT := TX1) (N := 9) ho hT hN hM rfl (by decide) hb q1076 q1078 qs21 q58 q1079 (by decide) (by decide +kernel) rfl (by decide) hdp hd hcat hcm hsm rfl kk
end TROWS
theorem c_need (l : Launch) (u : Mem) : Mt_ l yX1_need cX1_need 1 none 6 1 6 [aI 1] u (qV fun v => u = v) := by
  refine Mt_of (by decide) (Nat.le_of_ble_eq_true rfl) (fun X ho hX hN hI => ?_)
  subst hX
  show Z X 0 [some (aI  1)] [] u 0 0
  refine z_iload_n ho dX1_need_0 rfl ?_
  refine z_if_ne (tgt := 14) ho dX1_need_1 (by decide) (by unfold rng; omega) (fun c1 => ?_) (fun c1 => ?_)
  · 
    refine r_V ho dX1_need_14 (Nat.le_of_ble_eq_true rfl) (Nat.le_of_ble_eq_true rfl) ?_
    rfl
  · exact absurd c1 (by decide)
/-- an exception of the kind K is made -/
def qEx (K : Nat) (u : Mem) (e : Nat) (v : Mem) : Prop := e = sz_ u ∧ v = al_ u K 0
theorem t_need (l : Launch) (hst : l.stackTraces = false) (u : Mem) : Th_ l yX1_need cX1_need 1 none 6 1 6 [aI 0] u (qEx 19 u) := by
  refine Th_of (by decide) (Nat.le_of_ble_eq_true rfl) (fun X ho hT hX hN => ?_)
  subst hX
  show Z X 0 [some (aI  0)] [] u 0 0
  refine z_iload_n ho dX1_need_0 rfl ?_
  refine z_if_ne (tgt := 14) ho dX1_need_1 (by decide) (by unfold rng; omega) (fun c1 => ?_) (fun c1 => ?_)
  · exact absurd rfl c1
  · 
    refine tx_19 ho hT hst hN (sidx := 71) (tx := "no such number") (by simp [nestS_]) dX1_need_4 dX1_need_7 dX1_need_8 dX1_need_10 dX1_need_13 (by omega) (by omega) (Nat.le_of_ble_eq_true rfl) (Nat.le_of_ble_eq_true rfl) ?_
    exact ⟨rfl, rfl⟩
/-- a view by its number -/
theorem c_of_ (l : Launch) (u : Mem) {x : Nat} {n : Nat} {i : Int} (h : HF u x n) (h0 : 0 ≤ i) (h1 : i < n) : Mt_ l yX1_of cX1_of 2 (some (.object "KeyHall$View")) 7 1 6 [aR x, aI i] u (qR fun r v => u = v ∧ r = rv_ u (x + 3) i) := by
  obtain ⟨kx, q0, q1, q2, q3, q4, q5, q6, q7, q8, kv, lv, hn⟩ := h
  refine Mt_of (by decide) (Nat.le_of_ble_eq_true rfl) (fun X ho hX hN hI => ?_)
  subst hX
  show Z X 0 [some (aR x), some (aI i)] [] u 0 0
  refine z_iload_n ho dX1_of_0 rfl ?_
  refine z_if_lt (tgt := 16) ho dX1_of_1 (by decide) (by unfold rng; omega) (fun c1 => ?_) (fun c1 => ?_)
  · omega
  · 
    refine z_iload_n ho dX1_of_4 rfl ?_
    refine z_aload_n ho dX1_of_5 rfl ?_
    refine gX1_22 ho dX1_of_6 kx ?_
    rw [q2]
    refine z_icmp_ge (tgt := 16) ho dX1_of_9 (by decide) (by unfold rng; omega) (by unfold rng; omega) (fun c9 => ?_) (fun c9 => ?_)
    · omega
    · 
      refine z_iconst ho dX1_of_12 ?_
      refine z_goto (tgt := 17) ho dX1_of_13 (by decide) ?_
      refine kX1_76 ho hN (c_need _ _) dX1_of_17 (Nat.le_of_ble_eq_true rfl) (Nat.le_of_ble_eq_true rfl) (Nat.le_of_ble_eq_true rfl) (Nat.le_of_ble_eq_true rfl) (fun u17 h17 => ?_)
      obtain rfl := h17
      refine z_aload_n ho dX1_of_20 rfl ?_
      refine gX1_18 ho dX1_of_21 kx ?_
      rw [q1]
      refine z_iload_n ho dX1_of_24 rfl ?_
      refine z_aald ho dX1_of_25 (by decide) (show kd_ u (x + 3) = 106 from kv) (by omega) (by omega) ?_
      refine r_R ho dX1_of_26 (Nat.le_of_ble_eq_true rfl) (Nat.le_of_ble_eq_true rfl) ?_
      exact ⟨rfl, rfl⟩
theorem t_of_ (l : Launch) (hst : l.stackTraces = false) (u : Mem) {x : Nat} {n : Nat} {i : Int} (h : HF u x n) (hr : rng i) (hi : ¬ (0 ≤ i ∧ i < n)) : Th_ l yX1_of cX1_of 2 (some (.object "KeyHall$View")) 7 1 6 [aR x, aI i] u (qEx 19 u) := by
  obtain ⟨kx, q0, q1, q2, q3, q4, q5, q6, q7, q8, kv, lv, hn⟩ := h
  refine Th_of (by decide) (Nat.le_of_ble_eq_true rfl) (fun X ho hT hX hN => ?_)
  subst hX
  show Z X 0 [some (aR x), some (aI i)] [] u 0 0
  have t16 : Z X 16 [some (aR x), some (aI i)] [] u 0 0 := by
    refine z_iconst ho dX1_of_16 ?_
    refine tX1_76 ho hT hN (t_need _ hst _) dX1_of_17 (Nat.le_of_ble_eq_true rfl) (Nat.le_of_ble_eq_true rfl) (Nat.le_of_ble_eq_true rfl) (Nat.le_of_ble_eq_true rfl) (fun x17 u17 h17 => ?_)
    exact h17
  refine z_iload_n ho dX1_of_0 rfl ?_
  refine z_if_lt (tgt := 16) ho dX1_of_1 (by decide) hr (fun c1 => ?_) (fun c1 => ?_)
  · exact t16
  · 
    refine z_iload_n ho dX1_of_4 rfl ?_
    refine z_aload_n ho dX1_of_5 rfl ?_
    refine gX1_22 ho dX1_of_6 kx ?_
    rw [q2]
    refine z_icmp_ge (tgt := 16) ho dX1_of_9 (by decide) hr (by unfold rng; omega) (fun c9 => ?_) (fun c9 => ?_)
    · exact t16
    · exact absurd ⟨by omega, by omega⟩ hi
/-- found becomes an entry's text -/
theorem c_tell_ (l : Launch) (u : Mem) {x e : Nat} {tp fd : List Int} {M : Nat → List KV} {ch : Nat → Int} {VL : List VS} {Ks : List (List Int)} {T : List Int} {Os : List (List Int)} (h : HS u x tp fd M ch VL Ks T Os) (he : En u e) (hE : x + 64 ≤ e) : Mt_ l yX1_tell cX1_tell 2 (some .int) 7 1 6 [aR x, aR e] u (qI fun r v => r = iv_ u e 2 ∧ HS v x tp (tx u e) M ch VL Ks T Os ∧ sz_ v = sz_ u ∧ (∀ a, a < sz_ u → kd_ v a = kd_ u a ∧ ln_ v a = ln_ u a) ∧ ∀ a, a ≠ x + 13 → a ≠ x + 14 → Sm u v a) := by
  have h' := h
  obtain ⟨⟨g1, g2⟩, ⟨kx, q0, q1, q2, q3, q4, q5, q6, q7, q8, -⟩, t1, ⟨f1, f2, f3⟩, ⟨h0, d1⟩, -⟩ := h
  refine Mt_of (by decide) (Nat.le_of_ble_eq_true rfl) (fun X ho hX hN hI => ?_)
  subst hX
  show Z X 0 [some (aR x), some (aR e)] [] u 0 0
  refine z_wf (fun hw => ?_)
  have e0 := he.ne0 hw
  obtain ⟨y1, y2, y3, y4⟩ := cpy_facts f1.Kc he.1 (by omega) f1.2.2.2.2.2.2
  have se := y3 e (by omega) (by omega)
  refine z_aload_n ho dX1_tell_0 rfl ?_
  refine z_ifnonnull (tgt := 14) ho dX1_tell_1 (by decide) (fun c1 => ?_) (fun c1 => ?_)
  · 
    refine z_aload_n ho dX1_tell_14 rfl ?_
    refine gX1_40 ho dX1_tell_15 kx ?_
    rw [q5]
    refine z_aload_n ho dX1_tell_18 rfl ?_
    refine kX1_80 ho hN (c_copy _ _ f1.Kc he.1 (by omega)) dX1_tell_19 f1.1 (Nat.le_of_ble_eq_true rfl) (Nat.le_of_ble_eq_true rfl) (Nat.le_of_ble_eq_true rfl) (Nat.le_of_ble_eq_true rfl) (fun x19 u19 h19 => ?_)
    obtain ⟨rfl, rfl⟩ := h19
    refine z_pop ho dX1_tell_22 rfl ?_
    refine z_aload_n ho dX1_tell_23 rfl ?_
    refine gX1_134 ho dX1_tell_24 (by rw [se.1]; exact he.2) ?_
    refine r_I ho dX1_tell_27 (Nat.le_of_ble_eq_true rfl) (Nat.le_of_ble_eq_true rfl) ?_
    refine ⟨se.2.2.1 2, h'.keys hw (Nat.le_refl _) (fun a _ => ⟨rfl, rfl⟩) (fun a ha hn => y3 a (fun z => hn (by unfold kC; simp [z])) (fun z => hn (by unfold kC; simp [z]))) (t1.same (y3 _ (by omega) (by omega)) (y3 _ (by omega) (by omega))) ⟨y1, f2, y2⟩ (d1.same (y3 _ (by omega) (by omega)) (y3 _ (by omega) (by omega))), rfl, fun a _ => ⟨rfl, rfl⟩, y3⟩
  · exact absurd c1 e0
theorem t_tell (l : Launch) (hst : l.stackTraces = false) (u : Mem) {x : Nat} : Th_ l yX1_tell cX1_tell 2 (some .int) 7 1 6 [aR x, aR 0] u (qEx 22 u) := by
  refine Th_of (by decide) (Nat.le_of_ble_eq_true rfl) (fun X ho hT hX hN => ?_)
  subst hX
  show Z X 0 [some (aR x), some (aR  0)] [] u 0 0
  refine z_aload_n ho dX1_tell_0 rfl ?_
  refine z_ifnonnull (tgt := 14) ho dX1_tell_1 (by decide) (fun c1 => ?_) (fun c1 => ?_)
  · exact absurd rfl c1
  · 
    refine tx_22 ho hT hst hN (sidx := 167) (tx := "no key") (by simp [nestS_]) dX1_tell_4 dX1_tell_7 dX1_tell_8 dX1_tell_10 dX1_tell_13 (by omega) (by omega) (Nat.le_of_ble_eq_true rfl) (Nat.le_of_ble_eq_true rfl) ?_
    exact ⟨rfl, rfl⟩
