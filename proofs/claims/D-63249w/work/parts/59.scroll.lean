set_option maxRecDepth 100000
/-! ===== the scroll: its cells, length, become, insert, delete, undo, sum ===== -/
def SX (u : Mem) (sc a1 a3 a4 a5 a6 : Nat) : Prop := (kd_ u sc = 10 ∧ rv_ u sc 1 = a1 ∧ rv_ u sc 3 = a3 ∧ rv_ u sc 4 = a4 ∧ rv_ u sc 5 = a5 ∧ rv_ u sc 6 = a6) ∧ (kd_ u a1 = 107 ∧ ln_ u a1 = 20) ∧ (kd_ u a3 = 100 ∧ ln_ u a3 = 120) ∧ (kd_ u a4 = 100 ∧ ln_ u a4 = 120) ∧ (kd_ u a5 = 100 ∧ ln_ u a5 = 120) ∧ (kd_ u a6 = 100 ∧ ln_ u a6 = 120) ∧ (a3 ≠ a4 ∧ a3 ≠ a5 ∧ a3 ≠ a6 ∧ a4 ≠ a5 ∧ a4 ≠ a6 ∧ a5 ≠ a6)
def sQ (sc a1 a3 a4 a5 a6 : Nat) (a : Nat) (_K : Nat) : Prop := a = sc ∨ a = a1 ∨ a = a3 ∨ a = a4 ∨ a = a5 ∨ a = a6
theorem SX.ne {u : Mem} {sc a1 a3 a4 a5 a6 : Nat} (h : SX u sc a1 a3 a4 a5 a6) : (sc ≠ a1 ∧ sc ≠ a3 ∧ sc ≠ a4 ∧ sc ≠ a5 ∧ sc ≠ a6) ∧ (a1 ≠ a3 ∧ a1 ≠ a4 ∧ a1 ≠ a5 ∧ a1 ≠ a6) := by
  obtain ⟨⟨h0, -⟩, ⟨h1, -⟩, ⟨h3, -⟩, ⟨h4, -⟩, ⟨h5, -⟩, ⟨h6, -⟩, -⟩ := h
  refine ⟨⟨?_, ?_, ?_, ?_, ?_⟩, ?_, ?_, ?_, ?_⟩ <;> (intro z; subst z; omega)
theorem SX.lt {u : Mem} {sc a1 a3 a4 a5 a6 : Nat} (h : SX u sc a1 a3 a4 a5 a6) (hw : Wf u) : sc < sz_ u ∧ a1 < sz_ u ∧ a3 < sz_ u ∧ a4 < sz_ u ∧ a5 < sz_ u ∧ a6 < sz_ u := by
  obtain ⟨⟨h0, -⟩, ⟨h1, -⟩, ⟨h3, -⟩, ⟨h4, -⟩, ⟨h5, -⟩, ⟨h6, -⟩, -⟩ := h
  exact ⟨(hw.1 _ (by omega)).1, (hw.1 _ (by omega)).1, (hw.1 _ (by omega)).1, (hw.1 _ (by omega)).1, (hw.1 _ (by omega)).1, (hw.1 _ (by omega)).1⟩
theorem SX.same {u v : Mem} {sc a1 a3 a4 a5 a6 : Nat} (h : SX u sc a1 a3 a4 a5 a6) (hk : ∀ a, a = sc ∨ a = a1 ∨ a = a3 ∨ a = a4 ∨ a = a5 ∨ a = a6 → kd_ v a = kd_ u a ∧ ln_ v a = ln_ u a) (hr : ∀ i, i ≠ 0 → rv_ v sc i = rv_ u sc i) : SX v sc a1 a3 a4 a5 a6 := by
  obtain ⟨⟨h0, q1, q3, q4, q5, q6⟩, ⟨h1, g1⟩, ⟨h3, g3⟩, ⟨h4, g4⟩, ⟨h5, g5⟩, ⟨h6, g6⟩, hd⟩ := h
  have k1 := hk a1 (by simp)
  have k3 := hk a3 (by simp)
  have k4 := hk a4 (by simp)
  have k5 := hk a5 (by simp)
  have k6 := hk a6 (by simp)
  exact ⟨⟨by rw [(hk sc (by simp)).1]; exact h0, by rw [hr _ (by decide)]; exact q1, by rw [hr _ (by decide)]; exact q3, by rw [hr _ (by decide)]; exact q4, by rw [hr _ (by decide)]; exact q5, by rw [hr _ (by decide)]; exact q6⟩, ⟨by rw [k1.1]; exact h1, by rw [k1.2]; exact g1⟩, ⟨by rw [k3.1]; exact h3, by rw [k3.2]; exact g3⟩, ⟨by rw [k4.1]; exact h4, by rw [k4.2]; exact g4⟩, ⟨by rw [k5.1]; exact h5, by rw [k5.2]; exact g5⟩, ⟨by rw [k6.1]; exact h6, by rw [k6.2]; exact g6⟩, hd⟩
/-- the texts ahead of the edits -/
def OL (E : Nat) (u : Mem) (a1 : Nat) (Os : List (List Int)) : Prop := ∀ (j : Nat) O, Os[j]? = some O → RO E u (rv_ u a1 (j : Int)) O
theorem RO.len {E : Nat} {u : Mem} {r : Nat} {T : List Int} (hw : Wf u) (h : RO E u r T) : (r = 0 ↔ T = []) ∧ (r ≠ 0 → kd_ u r = 18 ∧ iv_ u r 0 = T.length ∧ RT E u 12 r T) := by
  rcases h with ⟨h1, h2⟩ | h
  · exact ⟨⟨fun _ => h2, fun _ => h1⟩, fun z => absurd h1 z⟩
  · have f := h.kd
    have h0 := (hw.1 r (by omega)).2
    exact ⟨⟨fun z => absurd z h0, fun z => absurd z f.2.2⟩, fun _ => ⟨f.1, f.2.1, h⟩⟩
theorem c_slen (l : Launch) (u : Mem) {E sc : Nat} {T : List Int} (ks : kd_ u sc = 10) (h : RO E u (rv_ u sc 0) T) : Mt_ l yX10_length cX10_length 1 (some .int) 0 0 0 [aR sc] u (qI fun r v => u = v ∧ r = T.length) := by
  refine Mt_of (by decide) (Nat.le_of_ble_eq_true rfl) (fun X ho hX hN hI => ?_)
  subst hX
  show Z X 0 [some (aR sc)] [] u 0 0
  refine z_wf (fun hw => ?_)
  obtain ⟨h1, h2⟩ := h.len hw
  refine z_aload_n ho dX10_length_0 rfl ?_
  refine gX10_30 ho dX10_length_1 ks ?_
  refine z_ifnonnull (tgt := 11) ho dX10_length_4 (by decide) (fun c4 => ?_) (fun c4 => ?_)
  · obtain ⟨k1, k2, -⟩ := h2 c4
    refine z_aload_n ho dX10_length_11 rfl ?_
    refine gX10_30 ho dX10_length_12 ks ?_
    refine gX10_34 ho dX10_length_15 k1 ?_
    refine r_I ho dX10_length_18 (Nat.le_of_ble_eq_true rfl) (Nat.le_of_ble_eq_true rfl) ?_
    exact ⟨rfl, k2⟩
  · 
    refine z_iconst ho dX10_length_7 ?_
    refine z_goto (tgt := 18) ho dX10_length_8 (by decide) ?_
    refine r_I ho dX10_length_18 (Nat.le_of_ble_eq_true rfl) (Nat.le_of_ble_eq_true rfl) ?_
    exact ⟨rfl, by rw [h1.mp c4]; rfl⟩
/-- one more text; of twenty the first one is gone -/
def psh (Os : List (List Int)) (T : List Int) : List (List Int) := (if Os.length = 20 then Os.drop 1 else Os) ++ [T]
theorem psh_len (Os : List (List Int)) (T : List Int) (h : Os.length ≤ 20) : (psh Os T).length ≤ 20 ∧ (psh Os T).length = (if Os.length = 20 then 20 else Os.length + 1) := by
  unfold psh
  split <;> simp <;> omega
theorem c_become (l : Launch) (u : Mem) {E sc a1 a3 a4 a5 a6 r : Nat} {T R : List Int} {Os : List (List Int)} (hX : SX u sc a1 a3 a4 a5 a6) (h : RO E u (rv_ u sc 0) T) (hO : OL E u a1 Os) (ho2 : iv_ u sc 2 = Os.length) (hOl : Os.length ≤ 20) (hr : RO E u r R) :
    Mt_ l yX10_become cX10_become 3 (some .int) 1 0 0 [aR sc, aR r] u (qI fun x v => x = R.length ∧ SX v sc a1 a3 a4 a5 a6 ∧ RO E v (rv_ v sc 0) R ∧ OL E v a1 (psh Os T) ∧ iv_ v sc 2 = (psh Os T).length ∧ iv_ v sc 7 = 0 ∧ sz_ v = sz_ u ∧ Fr (sQ sc a1 a3 a4 a5 a6) u v) := by
  obtain ⟨n1, n2⟩ := hX.ne
  have hX' := hX
  obtain ⟨⟨ks, r1, r3, r4, r5, r6⟩, ⟨k1, l1⟩, -⟩ := hX
  refine Mt_of (by decide) (Nat.le_of_ble_eq_true rfl) (fun X ho hX hN hI => ?_)
  subst hX
  show Z X 0 [some (aR sc), some (aR r), none] [] u 0 0
  refine z_wf (fun hw => ?_)
  -- what is the same when only sc and a1 change
  have frO : ∀ v : Mem, (∀ a, a ≠ sc → a ≠ a1 → Sm u v a) → ∀ {x : Nat} {S : List Int}, RO E u x S → RO E v x S := fun v hs {x S} hx => RO.frame (fun a ha => hs a (fun z => by rw [z] at ha; omega) (fun z => by rw [z] at ha; omega)) (fun a ha _ => hs a (fun z => by rw [z] at ha; omega) (fun z => by rw [z] at ha; omega)) hx
  have rest : ∀ (v : Mem) (Ps : List (List Int)) (tm : Option AV), (∀ a, a ≠ sc → a ≠ a1 → Sm u v a) → (∀ a, kd_ v a = kd_ u a ∧ ln_ v a = ln_ u a) → (∀ i, rv_ v sc i = rv_ u sc i) → sz_ v = sz_ u → iv_ v sc 2 = Ps.length → Ps.length < 20 → (∀ (j : Nat) O, Ps[j]? = some O → RO E u (rv_ v a1 (j : Int)) O) → Ps ++ [T] = psh Os T → Fr (sQ sc a1 a3 a4 a5 a6) u v → Z X 47 [some (aR sc), some (aR r), tm] [] v 0 0 := by
    intro v Ps tm hs hkl hrs hz hp hpl hP hps hF
    have kv : kd_ v sc = 10 := by rw [(hkl sc).1]; exact ks
    have e1 : rv_ v sc 1 = a1 := by rw [hrs]; exact r1
    have hkr : rv_ v sc 0 = 0 ∨ kd_ v (rv_ v sc 0) = 18 := by
      rw [hrs]
      rcases h with ⟨z, -⟩ | z
      · exact Or.inl z
      · right; rw [(hkl _).1]; exact z.kd.1
    refine z_aload_n ho dX10_become_47 rfl ?_
    refine gX10_11 ho dX10_become_48 kv ?_
    rw [e1]
    refine z_aload_n ho dX10_become_51 rfl ?_
    refine gX10_38 ho dX10_become_52 kv ?_
    rw [hp]
    refine z_aload_n ho dX10_become_55 rfl ?_
    refine gX10_30 ho dX10_become_56 kv ?_
    refine z_aast ho dX10_become_59 (Or.inr (Or.inr ⟨rfl, rfl, rfl⟩)) (show kd_ v a1 = 107 by rw [(hkl _).1]; exact k1) (by omega) (by rw [(hkl _).2, l1]; omega) hkr ?_
    refine z_aload_n ho dX10_become_60 rfl ?_
    refine z_dup ho dX10_become_61 rfl ?_
    refine gX10_38 ho dX10_become_62 kv ?_
    refine z_iconst ho dX10_become_65 ?_
    refine z_iadd ho dX10_become_66 ?_
    refine pX10_38 ho dX10_become_67 kv  ?_
    have e2 : iv_ (wR_ v a1 (Ps.length : Int) (rv_ v sc 0)) sc 2 = Ps.length := hp
    rw [e2]
    refine z_aload_n ho dX10_become_70 rfl ?_
    refine z_aload_n ho dX10_become_71 rfl ?_
    refine pX10_30 ho dX10_become_72 kv  ?_
    refine z_aload_n ho dX10_become_75 rfl ?_
    refine z_iconst ho dX10_become_76 ?_
    refine pX10_41 ho dX10_become_77 kv (Or.inl rfl) ?_
    generalize hv : wI_ (wR_ (wI_ (wR_ v a1 (Ps.length : Int) (rv_ v sc 0)) sc 2 ((Ps.length : Int) + 1)) sc 0 r) sc 7 0 = w
    have W : ∀ a, a ≠ sc → a ≠ a1 → Sm u w a := fun a z1 z2 => by rw [← hv]; exact ((((hs a z1 z2).tr (Sm.wR z2)).tr (Sm.wI z1)).tr (Sm.wR z1)).tr (Sm.wI z1)
    have kw : ∀ a, kd_ w a = kd_ u a ∧ ln_ w a = ln_ u a := fun a => by rw [← hv]; exact hkl a
    have w0 : rv_ w sc 0 = r := by rw [← hv, rv_wI, rv_wR, if_pos ⟨rfl, rfl⟩]
    have wi : ∀ i, i ≠ 0 → rv_ w sc i = rv_ u sc i := fun i hi => by rw [← hv, rv_wI, rv_wR, if_neg (fun z => hi z.2), rv_wI, rv_wR, if_neg (fun z => n1.1 z.1)]; exact hrs i
    have wa : ∀ j : Int, rv_ w a1 j = if j = Ps.length then rv_ u sc 0 else rv_ v a1 j := fun j => by
      rw [← hv, rv_wI, rv_wR, if_neg (fun z => n1.1 z.1.symm), rv_wI, rv_wR]
      by_cases z : j = Ps.length
      · rw [if_pos ⟨rfl, z⟩, if_pos z, hrs]
      · rw [if_neg (fun y => z y.2), if_neg z]
    have w2 : iv_ w sc 2 = (Ps.length : Int) + 1 := by rw [← hv, iv_wI, if_neg (by omega), iv_wR, iv_wI, if_pos ⟨rfl, rfl⟩]
    have w7 : iv_ w sc 7 = 0 := by rw [← hv, iv_wI, if_pos ⟨rfl, rfl⟩]
    have wz : sz_ w = sz_ u := by rw [← hv]; exact hz
    have Xw := hX'.same (fun a _ => kw a) wi
    have hRw : RO E w (rv_ w sc 0) R := by rw [w0]; exact frO w W hr
    have Fw : Fr (sQ sc a1 a3 a4 a5 a6) u w := by
      rw [← hv]
      exact ((((hF.nR (Or.inr (Or.inr (Or.inl rfl)))).nI (Or.inr (Or.inl rfl))).nR (Or.inr (Or.inl rfl))).nI (Or.inr (Or.inl rfl)))
    refine z_aload_n ho dX10_become_80 rfl ?_
    refine kX10_45 ho hN (c_slen _ _ Xw.1.1 hRw) dX10_become_81 Xw.1.1 (Nat.le_of_ble_eq_true rfl) (Nat.le_of_ble_eq_true rfl) (Nat.le_of_ble_eq_true rfl) (Nat.le_of_ble_eq_true rfl) (fun x81 u81 h81 => ?_)
    obtain ⟨rfl, hx⟩ := h81
    refine r_I ho dX10_become_84 (Nat.le_of_ble_eq_true rfl) (Nat.le_of_ble_eq_true rfl) ?_
    refine ⟨hx, Xw, hRw, fun j O hj => ?_, ?_, w7, wz, Fw⟩
    · refine frO w W ?_
      rw [← hps] at hj
      rw [wa]
      by_cases z : j < Ps.length
      · rw [List.getElem?_append_left z] at hj
        rw [if_neg (by omega)]
        exact hP j O hj
      · rw [List.getElem?_append_right (by omega)] at hj
        have hj0 : j - Ps.length = 0 := by
          by_cases y : j - Ps.length = 0
          · exact y
          · rw [List.getElem?_eq_none (by simp; omega)] at hj; cases hj
        rw [hj0] at hj
        simp at hj
        rw [if_pos (by omega), ← hj]
        exact h
    · rw [w2, ← hps]; simp
  refine z_aload_n ho dX10_become_0 rfl ?_
  refine gX10_38 ho dX10_become_1 ks ?_
  rw [ho2]
  refine z_bipush ho dX10_become_4 rfl ?_
  refine z_icmp_ne (tgt := 47) ho dX10_become_6 (by decide) (by unfold rng; omega) (by unfold rng; omega) (fun c6 => ?_) (fun c6 => ?_)
  · have hne : Os.length ≠ 20 := by omega
    exact rest u Os none (fun a _ _ => Sm.rf u a) (fun a => ⟨rfl, rfl⟩) (fun _ => rfl) rfl ho2 (by omega) hO (by unfold psh; rw [if_neg hne]) (Fr.rf _ _)
  · have h20 : Os.length = 20 := by omega
    have key : ∀ (m k : Nat) (v : Mem), m + k = 20 → 1 ≤ k → (∀ a, a ≠ a1 → Sm u v a) → (∀ a, kd_ v a = kd_ u a ∧ ln_ v a = ln_ u a) → sz_ v = sz_ u → (∀ j : Nat, rv_ v a1 (j : Int) = if j + 1 < k then rv_ u a1 ((j : Int) + 1) else rv_ u a1 (j : Int)) → Fr (sQ sc a1 a3 a4 a5 a6) u v → Z X 11 [some (aR sc), some (aR r), some (aI (k : Int))] [] v 0 0 := by
      intro m
      induction m with
      | zero =>
        intro k v hmk hk hs hkl hz hv hF
        have kv : kd_ v sc = 10 := by rw [(hkl sc).1]; exact ks
        have sv := hs sc n1.1
        have ev : iv_ v sc 2 = 20 := by rw [sv.2.2.1, ho2, h20]; rfl
        refine z_iload_n ho dX10_become_11 rfl ?_
        refine z_bipush ho dX10_become_12 rfl ?_
        refine z_icmp_ge (tgt := 37) ho dX10_become_14 (by decide) (by unfold rng; omega) (by unfold rng; omega) (fun c14 => ?_) (fun c14 => ?_)
        · 
          refine z_aload_n ho dX10_become_37 rfl ?_
          refine z_dup ho dX10_become_38 rfl ?_
          refine gX10_38 ho dX10_become_39 kv ?_
          rw [ev]
          refine z_iconst ho dX10_become_42 ?_
          refine z_isub ho dX10_become_43 ?_
          refine pX10_38 ho dX10_become_44 kv  ?_
          refine rest _ (Os.drop 1) _ (fun a z1 z2 => (hs a z2).tr (Sm.wI z1)) hkl (fun i => sv.2.2.2 i) hz (by rw [iv_wI, if_pos ⟨rfl, rfl⟩]; simp [h20]) (by simp [h20]) (fun j O hj => ?_) (by unfold psh; rw [if_pos h20]) (hF.nI (Or.inr (Or.inl rfl)))
          rw [List.getElem?_drop] at hj
          have hjl := (List.getElem?_eq_some_iff.mp hj).1
          rw [rv_wI, hv j, if_pos (by omega)]
          have := hO (1 + j) O hj
          rw [show ((1 + j : Nat) : Int) = (j : Int) + 1 by omega] at this
          exact this
        · omega
      | succ m ih =>
        intro k v hmk hk hs hkl hz hv hF
        have kv : kd_ v sc = 10 := by rw [(hkl sc).1]; exact ks
        have sv := hs sc n1.1
        have e1 : rv_ v sc 1 = a1 := by rw [sv.2.2.2]; exact r1
        have kx : rv_ v a1 (k : Int) = 0 ∨ kd_ v (rv_ v a1 (k : Int)) = 18 := by
          rw [hv k, if_neg (by omega)]
          have hkl2 : k < Os.length := by omega
          have := hO k Os[k] (List.getElem?_eq_getElem hkl2)
          rcases this with ⟨z, -⟩ | z
          · exact Or.inl z
          · right; rw [(hkl _).1]; exact z.kd.1
        refine z_iload_n ho dX10_become_11 rfl ?_
        refine z_bipush ho dX10_become_12 rfl ?_
        refine z_icmp_ge (tgt := 37) ho dX10_become_14 (by decide) (by unfold rng; omega) (by unfold rng; omega) (fun c14 => ?_) (fun c14 => ?_)
        · omega
        · 
          refine z_aload_n ho dX10_become_17 rfl ?_
          refine gX10_11 ho dX10_become_18 kv ?_
          rw [e1]
          refine z_iload_n ho dX10_become_21 rfl ?_
          refine z_iconst ho dX10_become_22 ?_
          refine z_isub ho dX10_become_23 ?_
          refine z_aload_n ho dX10_become_24 rfl ?_
          refine gX10_11 ho dX10_become_25 kv ?_
          rw [e1]
          refine z_iload_n ho dX10_become_28 rfl ?_
          refine z_aald ho dX10_become_29 (by decide) (show kd_ v a1 = 107 by rw [(hkl _).1]; exact k1) (by omega) (by rw [(hkl _).2, l1]; omega) ?_
          refine z_aast ho dX10_become_30 (Or.inr (Or.inr ⟨rfl, rfl, rfl⟩)) (show kd_ v a1 = 107 by rw [(hkl _).1]; exact k1) (by omega) (by rw [(hkl _).2, l1]; omega) kx ?_
          refine z_iinc ho dX10_become_31 rfl rfl ?_
          refine z_goto (tgt := 11) ho dX10_become_34 (by decide) ?_
          have := ih (k + 1) (wR_ v a1 ((k : Int) - 1) (rv_ v a1 (k : Int))) (by omega) (by omega) (fun a ha => (hs a ha).tr (Sm.wR ha)) hkl hz (fun j => ?_) (hF.nR (Or.inr (Or.inr (Or.inl rfl))))
          · exact this
          · rw [rv_wR]
            by_cases z : j + 1 = k
            · rw [if_pos ⟨rfl, by omega⟩, if_pos (by omega), hv k, if_neg (by omega), ← z]
              congr 1
            · rw [if_neg (by omega), hv j]
              by_cases y : j + 1 < k
              · rw [if_pos y, if_pos (by omega)]
              · rw [if_neg y, if_neg (by omega)]
    refine z_iconst ho dX10_become_9 ?_
    refine z_istore_n ho dX10_become_10 (Nat.le_of_ble_eq_true rfl) rfl ?_
    exact key 19 1 u (by omega) (by omega) (fun a _ => Sm.rf u a) (fun a => ⟨rfl, rfl⟩) rfl (fun j => by rw [if_neg (by omega)]) (Fr.rf _ _)
