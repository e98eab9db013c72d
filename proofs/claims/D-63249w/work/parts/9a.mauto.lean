set_option maxRecDepth 100000
/-! ===== KeyHallModel: go, stepsOf, automaton ===== -/
/-- the steps in their arrays -/
def StA (u : Mem) (m : Nat) (SL : List (Nat × Int × Nat)) : Prop := iv_ u m 27 = (SL.length : Int) ∧ SL.length ≤ 580 ∧ ∀ (j : Nat) q, SL[j]? = some q → (iv_ u (m + 23) (j : Int) = (q.1 : Int) ∧ q.1 < 580) ∧ (iv_ u (m + 24) (j : Int) = q.2.1 ∧ 0 ≤ q.2.1 ∧ q.2.1 < 65536) ∧ (iv_ u (m + 25) (j : Int) = (q.2.2 : Int) ∧ q.2.2 < 580)
theorem c_go (l : Launch) (u : Mem) {m s : Nat} {c : Int} {SL : List (Nat × Int × Nat)} (hm : MF u m) (h : StA u m SL) (hs : s < 580) (c0 : 0 ≤ c) (c1 : c < 65536) : Mt_ l yX13_go cX13_go 4 (some .int) 0 0 0 [aR m, aI (s : Int), aI c] u (qI fun r v => u = v ∧ ((r = -1 ∧ ∀ t, (s, c, t) ∉ SL) ∨ ∃ t : Nat, (s, c, t) ∈ SL ∧ r = (t : Int) ∧ t < 580)) := by
  obtain ⟨h1, h2, h3⟩ := h
  refine Mt_of (by decide) (Nat.le_of_ble_eq_true rfl) (fun X ho hX hN hI => ?_)
  subst hX
  show Z X 0 [some (aR m), some (aI  (s : Int)), some (aI c), none] [] u 0 0
  have key : ∀ (d k : Nat), d + k = SL.length → (∀ (j : Nat) q, j < k → SL[j]? = some q → ¬ (q.1 = s ∧ q.2.1 = c)) → Z X 2 [some (aR m), some (aI (s : Int)), some (aI c), some (aI (k : Int))] [] u 0 0 := by
    intro d
    induction d with
    | zero =>
      intro k hk hno
      refine z_iload_n ho dX13_go_2 rfl ?_
      refine z_aload_n ho dX13_go_3 rfl ?_
      refine gX13_199 ho dX13_go_4 hm.1 ?_
      refine z_icmp_ge (tgt := 43) ho dX13_go_7 (by decide) (by unfold rng; omega) (by rw [h1]; unfold rng; omega) (fun c7 => ?_) (fun c7 => ?_)
      · 
        refine z_iconst ho dX13_go_43 ?_
        refine r_I ho dX13_go_44 (Nat.le_of_ble_eq_true rfl) (Nat.le_of_ble_eq_true rfl) ?_
        refine ⟨rfl, Or.inl ⟨rfl, fun t ht => ?_⟩⟩
        obtain ⟨j, hj, e⟩ := List.mem_iff_getElem.mp ht
        exact hno j _ (by omega) (by rw [List.getElem?_eq_getElem hj, e]) ⟨rfl, rfl⟩
      · omega
    | succ d ih =>
      intro k hk hno
      have hkq : SL[k]? = some SL[k] := List.getElem?_eq_getElem (by omega)
      generalize SL[k] = q at hkq
      obtain ⟨⟨q1, q1'⟩, ⟨q2, q2', q2''⟩, ⟨q3, q3'⟩⟩ := h3 k q hkq
      have t37 : ¬ (q.1 = s ∧ q.2.1 = c) → Z X 37 [some (aR m), some (aI (s : Int)), some (aI c), some (aI (k : Int))] [] u 0 0 := fun hn => by
        refine z_iinc ho dX13_go_37 rfl rfl ?_
        refine z_goto (tgt := 2) ho dX13_go_40 (by decide) ?_
        refine ih (k + 1) (by omega) (fun j q' hj hq' => ?_)
        rcases lt_or_eq' hj with z | z
        · exact hno j q' z hq'
        · rw [z, hkq] at hq'; cases hq'; exact hn
      refine z_iload_n ho dX13_go_2 rfl ?_
      refine z_aload_n ho dX13_go_3 rfl ?_
      refine gX13_199 ho dX13_go_4 hm.1 ?_
      refine z_icmp_ge (tgt := 43) ho dX13_go_7 (by decide) (by unfold rng; omega) (by rw [h1]; unfold rng; omega) (fun c7 => ?_) (fun c7 => ?_)
      · omega
      · 
        refine z_aload_n ho dX13_go_10 rfl ?_
        refine gX13_81 ho dX13_go_11 hm.1 (mget hm.r30 ?_)
        refine z_iload_n ho dX13_go_14 rfl ?_
        refine z_iald ho dX13_go_15 hm.k23 (by omega) (hm.t23 (by omega)) ?_
        refine z_iload_n ho dX13_go_16 rfl ?_
        refine z_icmp_ne (tgt := 37) ho dX13_go_17 (by decide) (by rw [q1]; unfold rng; omega) (by unfold rng; omega) (fun c17 => ?_) (fun c17 => ?_)
        · rw [q1] at c17
          exact t37 (fun z => by omega)
        · rw [q1] at c17
          refine z_aload_n ho dX13_go_20 rfl ?_
          refine gX13_84 ho dX13_go_21 hm.1 (mget hm.r31 ?_)
          refine z_iload_n ho dX13_go_24 rfl ?_
          refine z_iald ho dX13_go_25 hm.k24 (by omega) (hm.t24 (by omega)) ?_
          refine z_iload_n ho dX13_go_26 rfl ?_
          refine z_icmp_ne (tgt := 37) ho dX13_go_27 (by decide) (by rw [q2]; unfold rng; omega) (by unfold rng; omega) (fun c27 => ?_) (fun c27 => ?_)
          · rw [q2] at c27
            exact t37 (fun z => c27 z.2)
          · rw [q2] at c27
            refine z_aload_n ho dX13_go_30 rfl ?_
            refine gX13_87 ho dX13_go_31 hm.1 (mget hm.r32 ?_)
            refine z_iload_n ho dX13_go_34 rfl ?_
            refine z_iald ho dX13_go_35 hm.k25 (by omega) (hm.t25 (by omega)) ?_
            refine r_I ho dX13_go_36 (Nat.le_of_ble_eq_true rfl) (Nat.le_of_ble_eq_true rfl) ?_
            refine ⟨rfl, Or.inr ⟨q.2.2, ?_, q3, q3'⟩⟩
            have : (s, c, q.2.2) = q := by rw [← c27, show s = q.1 by omega]
            rw [this]
            exact List.mem_of_getElem? hkq
  refine z_iconst ho dX13_go_0 ?_
  refine z_istore_n ho dX13_go_1 (Nat.le_of_ble_eq_true rfl) rfl ?_
  exact key SL.length 0 rfl (fun j q hj => by omega)
theorem c_stepsOf (l : Launch) (u : Mem) {m s : Nat} {SL : List (Nat × Int × Nat)} (hm : MF u m) (h : StA u m SL) (hs : s < 580) : Mt_ l yX13_stepsOf cX13_stepsOf 4 (some .int) 0 0 0 [aR m, aI (s : Int)] u (qI fun r v => u = v ∧ r = ((SL.filter (fun q => q.1 == s)).length : Nat)) := by
  obtain ⟨h1, h2, h3⟩ := h
  refine Mt_of (by decide) (Nat.le_of_ble_eq_true rfl) (fun X ho hX hN hI => ?_)
  subst hX
  show Z X 0 [some (aR m), some (aI  (s : Int)), none, none] [] u 0 0
  have key : ∀ (d k : Nat), d + k = SL.length → Z X 4 [some (aR m), some (aI (s : Int)), some (aI (((SL.take k).filter (fun q => q.1 == s)).length : Nat)), some (aI (k : Int))] [] u 0 0 := by
    intro d
    induction d with
    | zero =>
      intro k hk
      refine z_iload_n ho dX13_stepsOf_4 rfl ?_
      refine z_aload_n ho dX13_stepsOf_5 rfl ?_
      refine gX13_199 ho dX13_stepsOf_6 hm.1 ?_
      refine z_icmp_ge (tgt := 36) ho dX13_stepsOf_9 (by decide) (by unfold rng; omega) (by rw [h1]; unfold rng; omega) (fun c9 => ?_) (fun c9 => ?_)
      · 
        refine z_iload_n ho dX13_stepsOf_36 rfl ?_
        refine r_I ho dX13_stepsOf_37 (Nat.le_of_ble_eq_true rfl) (Nat.le_of_ble_eq_true rfl) ?_
        exact ⟨rfl, by rw [List.take_of_length_le (by omega)]⟩
      · omega
    | succ d ih =>
      intro k hk
      have hkq : SL[k]? = some SL[k] := List.getElem?_eq_getElem (by omega)
      generalize SL[k] = q at hkq
      obtain ⟨⟨q1, q1'⟩, -⟩ := h3 k q hkq
      have nx := ih (k + 1) (by omega)
      have tk : SL.take (k + 1) = SL.take k ++ [q] := by rw [List.take_add_one, hkq]; rfl
      have t28 : ∀ b : Int, (((SL.take k).filter (fun q => q.1 == s)).length : Int) + b = (((SL.take (k + 1)).filter (fun q => q.1 == s)).length : Nat) → Z X 28 [some (aR m), some (aI (s : Int)), some (aI (((SL.take k).filter (fun q => q.1 == s)).length : Nat)), some (aI (k : Int))] [aI b, aI (((SL.take k).filter (fun q => q.1 == s)).length : Nat)] u 0 0 := fun b hb => by
        refine z_iadd ho dX13_stepsOf_28 ?_
        refine z_istore_n ho dX13_stepsOf_29 (Nat.le_of_ble_eq_true rfl) rfl ?_
        refine z_iinc ho dX13_stepsOf_30 rfl rfl ?_
        refine z_goto (tgt := 4) ho dX13_stepsOf_33 (by decide) ?_
        rw [hb]
        exact nx
      refine z_iload_n ho dX13_stepsOf_4 rfl ?_
      refine z_aload_n ho dX13_stepsOf_5 rfl ?_
      refine gX13_199 ho dX13_stepsOf_6 hm.1 ?_
      refine z_icmp_ge (tgt := 36) ho dX13_stepsOf_9 (by decide) (by unfold rng; omega) (by rw [h1]; unfold rng; omega) (fun c9 => ?_) (fun c9 => ?_)
      · omega
      · 
        refine z_iload_n ho dX13_stepsOf_12 rfl ?_
        refine z_aload_n ho dX13_stepsOf_13 rfl ?_
        refine gX13_81 ho dX13_stepsOf_14 hm.1 (mget hm.r30 ?_)
        refine z_iload_n ho dX13_stepsOf_17 rfl ?_
        refine z_iald ho dX13_stepsOf_18 hm.k23 (by omega) (hm.t23 (by omega)) ?_
        refine z_iload_n ho dX13_stepsOf_19 rfl ?_
        refine z_icmp_ne (tgt := 27) ho dX13_stepsOf_20 (by decide) (by rw [q1]; unfold rng; omega) (by unfold rng; omega) (fun c20 => ?_) (fun c20 => ?_)
        · rw [q1] at c20
          refine z_iconst ho dX13_stepsOf_27 ?_
          refine t28 0 ?_
          rw [tk, List.filter_append, List.length_append, List.filter_cons_of_neg (by simp; omega)]
          simp
        · rw [q1] at c20
          refine z_iconst ho dX13_stepsOf_23 ?_
          refine z_goto (tgt := 28) ho dX13_stepsOf_24 (by decide) ?_
          refine t28 1 ?_
          rw [tk, List.filter_append, List.length_append, List.filter_cons_of_pos (by simp; omega)]
          simp
  refine z_iconst ho dX13_stepsOf_0 ?_
  refine z_istore_n ho dX13_stepsOf_1 (Nat.le_of_ble_eq_true rfl) rfl ?_
  refine z_iconst ho dX13_stepsOf_2 ?_
  refine z_istore_n ho dX13_stepsOf_3 (Nat.le_of_ble_eq_true rfl) rfl ?_
  exact key SL.length 0 rfl
/-- plain facts of a made automaton -/
theorem MAu.sta {u : Mem} {m : Nat} {Ks : List (List Int)} {RL : List (List Int → Prop)} {SL : List (Nat × Int × Nat)} (h1 : iv_ u m 27 = (SL.length : Int)) (h2 : SL.length ≤ 580) (hR : RL.length ≤ 580) (h3 : ∀ (j : Nat) q, SL[j]? = some q → iv_ u (m + 23) (j : Int) = (q.1 : Int) ∧ iv_ u (m + 24) (j : Int) = q.2.1 ∧ iv_ u (m + 25) (j : Int) = (q.2.2 : Int) ∧ 0 ≤ q.2.1 ∧ q.2.1 < 65536) (h4 : ∀ (s : Nat) (c : Int) (t : Nat), (s, c, t) ∈ SL ↔ ∃ R, RL[s]? = some R ∧ (∃ w, R (c :: w)) ∧ RL[t]? = some (fun w => R (c :: w))) : StA u m SL := by
  refine ⟨h1, h2, fun j q hq => ?_⟩
  obtain ⟨a1, a2, a3, a4, a5⟩ := h3 j q hq
  obtain ⟨R, b1, -, b3⟩ := (h4 q.1 q.2.1 q.2.2).mp (List.mem_of_getElem? hq)
  have l1 := (List.getElem?_eq_some_iff.mp b1).1
  have l2 := (List.getElem?_eq_some_iff.mp b3).1
  exact ⟨⟨a1, by omega⟩, ⟨a2, a4, a5⟩, ⟨a3, by omega⟩⟩
theorem nums0 (Rs : List (List Int → Prop)) : nums 0 Rs = Rs.length := by
  unfold nums
  induction Rs with
  | nil => rfl
  | cons R Rs ih => rw [List.map_cons, List.sum_cons, ih, List.length_cons]; unfold num_; simp; omega
/-- steps by their states -/
theorem sum_steps {Ks : List (List Int)} {RL : List (List Int → Prop)} {SL : List (Nat × Int × Nat)} (hnd : SL.Nodup) (hc : Cls Ks RL) (h4 : ∀ (s : Nat) (c : Int) (t : Nat), (s, c, t) ∈ SL ↔ ∃ R, RL[s]? = some R ∧ (∃ w, R (c :: w)) ∧ RL[t]? = some (fun w => R (c :: w))) : ∀ s R, RL[s]? = some R → (SL.filter (fun q => q.1 == s)).length = deg R := by
  intro s R hs
  refine (deg_of ⟨(SL.filter (fun q => q.1 == s)).map (fun q => q.2.1), ?_, fun c => ?_, by rw [List.length_map]⟩).symm
  · refine List.pairwise_map.mpr ((List.Pairwise.and_mem.mp (hnd.filter _)).imp (fun {a b} hab e => ?_))
    obtain ⟨ha, hb, hne⟩ := hab
    obtain ⟨a1, a2⟩ := List.mem_filter.mp ha
    obtain ⟨b1, b2⟩ := List.mem_filter.mp hb
    have ea : a.1 = s := by simpa using a2
    have eb : b.1 = s := by simpa using b2
    obtain ⟨Ra, p1, -, p3⟩ := (h4 a.1 a.2.1 a.2.2).mp a1
    obtain ⟨Rb, r1, -, r3⟩ := (h4 b.1 b.2.1 b.2.2).mp b1
    rw [ea, hs] at p1
    rw [eb, hs] at r1
    cases p1
    cases r1
    rw [← e] at r3
    have l1 := (List.getElem?_eq_some_iff.mp p3).1
    have := (List.getElem?_inj l1 hc.1).mp (p3.trans r3.symm)
    exact hne (by
      obtain ⟨x1, x2, x3⟩ := a
      obtain ⟨y1, y2, y3⟩ := b
      simp only at ea eb e this
      rw [ea, eb, e, this])
  · rw [List.mem_map]
    constructor
    · rintro ⟨q, hq, rfl⟩
      obtain ⟨q1, q2⟩ := List.mem_filter.mp hq
      have eq : q.1 = s := by simpa using q2
      obtain ⟨R', p1, p2, -⟩ := (h4 q.1 q.2.1 q.2.2).mp q1
      rw [eq, hs] at p1
      cases p1
      exact p2
    · intro hw
      have hw' := hw
      obtain ⟨w, hw⟩ := hw
      obtain ⟨p, hp1, hp2⟩ := (hc.2 R).mp (List.mem_of_getElem? hs)
      have hmem : (fun w => R (c :: w)) ∈ RL := by
        refine (hc.2 _).mpr ⟨p ++ [c], ?_, ?_⟩
        · rw [hp2] at hw
          exact ⟨p ++ c :: w, hw, ⟨w, by simp⟩⟩
        · rw [hp2]
          funext v
          unfold res
          simp
      obtain ⟨t, ht, e⟩ := List.mem_iff_getElem.mp hmem
      refine ⟨(s, c, t), List.mem_filter.mpr ⟨(h4 s c t).mpr ⟨R, hs, hw', by rw [List.getElem?_eq_getElem ht, e]⟩, by simp⟩, rfl⟩
theorem sum_filter {SL : List (Nat × Int × Nat)} {g : Nat → Nat} : ∀ n : Nat, (∀ s, s < n → (SL.filter (fun q => q.1 == s)).length = g s) → (SL.filter (fun q => decide (q.1 < n))).length = ((List.range n).map g).sum := by
  intro n
  induction n with
  | zero =>
    intro _
    rw [List.filter_eq_nil_iff.mpr (fun a _ => by simp)]
    rfl
  | succ n ih =>
    intro h
    rw [List.range_succ, List.map_append, List.sum_append, ← ih (fun s hs => h s (by omega))]
    simp only [List.map_cons, List.map_nil, List.sum_cons, List.sum_nil, Nat.add_zero]
    rw [← h n (by omega)]
    clear h ih
    induction SL with
    | nil => rfl
    | cons q SL ihS =>
      rw [List.filter_cons, List.filter_cons, List.filter_cons]
      by_cases h1 : q.1 < n
      · rw [if_pos (by simp; omega), if_pos (by simp; omega), if_neg (by simp; omega), List.length_cons, List.length_cons, ihS]
        omega
      · by_cases h2 : q.1 = n
        · rw [if_pos (by simp; omega), if_neg (by simp; omega), if_pos (by simp; omega), List.length_cons, List.length_cons, ihS]
          omega
        · rw [if_neg (by simp; omega), if_neg (by simp; omega), if_neg (by simp; omega), ihS]
theorem map_range_get {α : Type} (L : List α) (f : α → Nat) (g : Nat → Nat) (h : ∀ (s : Nat) R, L[s]? = some R → g s = f R) : (List.range L.length).map g = L.map f := by
  apply List.ext_getElem?
  intro i
  rw [List.getElem?_map, List.getElem?_map]
  by_cases hi : i < L.length
  · rw [List.getElem?_range hi, List.getElem?_eq_getElem hi]
    simp only [Option.map_some]
    rw [h i L[i] (List.getElem?_eq_getElem hi)]
  · rw [List.getElem?_eq_none (by rw [List.length_range]; omega), List.getElem?_eq_none (by omega)]
    rfl
theorem nums1 {Ks : List (List Int)} {RL : List (List Int → Prop)} {SL : List (Nat × Int × Nat)} (hnd : SL.Nodup) (hc : Cls Ks RL) (h4 : ∀ (s : Nat) (c : Int) (t : Nat), (s, c, t) ∈ SL ↔ ∃ R, RL[s]? = some R ∧ (∃ w, R (c :: w)) ∧ RL[t]? = some (fun w => R (c :: w))) : SL.length = nums 1 RL := by
  have hs := sum_steps hnd hc h4
  have e := sum_filter (SL := SL) (g := fun s => (SL.filter (fun q => q.1 == s)).length) RL.length (fun s _ => rfl)
  rw [List.filter_eq_self.mpr (fun q hq => by
    obtain ⟨R, b1, -⟩ := (h4 q.1 q.2.1 q.2.2).mp hq
    simpa using (List.getElem?_eq_some_iff.mp b1).1)] at e
  rw [e]
  unfold nums
  congr 1
  refine map_range_get RL _ _ (fun s R hR => ?_)
  rw [hs s R hR]
  unfold num_
  simp
theorem c_mautomaton (l : Launch) (u : Mem) {m N : Nat} {w : Int} {tp fd : List Int} {M : Nat → List KV} {ch : Nat → Int} {VL : List VS} {Ks : List (List Int)} {T : List Int} {Os : List (List Int)} (h : MS u m N tp fd M ch VL Ks T Os) (rw_ : rng w) : Mt_ l yX13_automaton cX13_automaton 5 (some .int) 1 0 0 [aR m, aI w] u (qI fun r v => (¬ (0 ≤ w ∧ w ≤ 4) ∧ r = -1 ∧ qM m N u 0 tp fd M ch VL Ks T Os v) ∨ (0 ≤ w ∧ w < 3 ∧ qM m N u 0 tp fd M ch VL Ks T Os v ∧ ∃ Rs, Cls Ks Rs ∧ r = (nums w Rs : Nat)) ∨ ((w = 3 ∨ w = 4) ∧ qM m N u 0 [] fd M ch VL Ks T Os v ∧ ((Ks = [] ∧ r = if w = 3 then -1 else 0) ∨ (Ks ≠ [] ∧ ∃ i, Far Ks tp i ∧ r = if w = 3 then (i : Int) else @ite Int (tp ∈ Ks) (Classical.propDecidable _) 1 0)))) := by
  have HQ : qM m N u 0 tp fd M ch VL Ks T Os (wI_ u m 0 0) := qM_raise h
  have hm := h.1
  have hA := HQ.2.2.2.2.2.2.2.2.1
  have c0 : Cls [] [] := ⟨List.nodup_nil, fun R => ⟨fun z => by simp at z, fun z => by obtain ⟨p, ⟨k, hk, -⟩, -⟩ := z; simp at hk⟩⟩
  have e26 : ∃ n : Nat, iv_ (wI_ u m 0 0) m 26 = (n : Int) ∧ n ≤ 580 ∧ (n = 0 ↔ Ks = []) := by
    rcases hA with ⟨a1, a2, -⟩ | ⟨a1, RL, SL, b1, b2, b3, -⟩
    · exact ⟨0, a2, by omega, by simp [a1]⟩
    · refine ⟨RL.length, b2, b3, ⟨fun z => ?_, fun z => absurd z a1⟩⟩
      obtain ⟨k, hk⟩ := List.exists_mem_of_ne_nil _ a1
      have := (b1.2 (res Ks [])).mpr ⟨[], ⟨k, hk, List.nil_prefix⟩, rfl⟩
      rw [List.eq_nil_of_length_eq_zero z] at this
      simp at this
  obtain ⟨n26, e26, n26l, n260⟩ := e26
  refine Mt_of (by decide) (Nat.le_of_ble_eq_true rfl) (fun X ho hX hN hI => ?_)
  subst hX
  show Z X 0 [some (aR m), some (aI w), none, none, none] [] u 0 0
  refine z_aload_n ho dX13_automaton_0 rfl ?_
  refine z_iconst ho dX13_automaton_1 ?_
  refine pX13_99 ho dX13_automaton_2 hm.1  ?_
  refine z_iload_n ho dX13_automaton_5 rfl ?_
  refine z_if_ne (tgt := 14) ho dX13_automaton_6 (by decide) rw_ (fun c6 => ?_) (fun c6 => ?_)
  · 
    refine z_iload_n ho dX13_automaton_14 rfl ?_
    refine z_iconst ho dX13_automaton_15 ?_
    refine z_icmp_ne (tgt := 24) ho dX13_automaton_16 (by decide) rw_ (by unfold rng; omega) (fun c16 => ?_) (fun c16 => ?_)
    · 
      refine z_iload_n ho dX13_automaton_24 rfl ?_
      refine z_iconst ho dX13_automaton_25 ?_
      refine z_icmp_ne (tgt := 66) ho dX13_automaton_26 (by decide) rw_ (by unfold rng; omega) (fun c26 => ?_) (fun c26 => ?_)
      · have go : (w = 3 ∨ w = 4) → Z X 78 [some (aR m), some (aI w), none, none, none] [] (wI_ u m 0 0) 0 0 := fun hw => by
          have e2 : iv_ (wI_ u m 0 0) m 2 = (tp.length : Int) := by rw [iv_wI, if_neg (by omega)]; exact h.2.1.1
          have tl := h.2.1.2.2.1
          have HQ2 : qM m N u 0 [] fd M ch VL Ks T Os (wI_ (wI_ u m 0 0) m 2 0) := ⟨((Im.rf m u).w0 0 0).w0 2 0, by rw [iv_wI, if_neg (by omega), iv_wI, if_pos ⟨rfl, rfl⟩], h.cgt (((Cg.rf m u _ _).f 0 0 (by decide)).f 2 0 (by decide)) (by rw [iv_wI, if_pos ⟨rfl, rfl⟩])⟩
          have tt : TA (wI_ (wI_ u m 0 0) m 2 0) (m + 1) 0 tp := by
            obtain ⟨q1, q2, q3, q4, q5, q6⟩ := h.2.1.ta hm
            exact ⟨q1, q2, q3, by rw [ivf (by omega), ivf (by omega)]; exact q4, q5, q6⟩
          have e26' : iv_ (wI_ (wI_ u m 0 0) m 2 0) m 26 = (n26 : Int) := by rw [iv_wI, if_neg (by omega)]; exact e26
          refine z_aload_n ho dX13_automaton_78 rfl ?_
          refine gX13_102 ho dX13_automaton_79 hm.1 ?_
          refine z_istore_n ho dX13_automaton_82 (Nat.le_of_ble_eq_true rfl) rfl ?_
          rw [e2]
          refine z_aload_n ho dX13_automaton_83 rfl ?_
          refine z_iconst ho dX13_automaton_84 ?_
          refine pX13_102 ho dX13_automaton_85 hm.1  ?_
          generalize wI_ (wI_ u m 0 0) m 2 0 = v at *
          have hm := HQ2.2.2.1
          have hA := HQ2.2.2.2.2.2.2.2.2.1
          rcases hA with ⟨a1, a2, -⟩ | ⟨a1, RL, SL, b1, b2, b3, b4, b5, b6, ⟨s0, b7, b8⟩, b9, b10, b11⟩
          · have z0 : n26 = 0 := n260.mpr a1
            refine z_aload_n ho dX13_automaton_88 rfl ?_
            refine gX13_196 ho dX13_automaton_89 hm.1 ?_
            refine z_if_ne (tgt := 99) ho dX13_automaton_92 (by decide) (by rw [e26']; unfold rng; omega) (fun c92 => ?_) (fun c92 => ?_)
            · rw [e26'] at c92; omega
            · 
              refine z_iconst ho dX13_automaton_95 ?_
              refine z_goto (tgt := 103) ho dX13_automaton_96 (by decide) ?_
              refine z_istore_n ho dX13_automaton_103 (Nat.le_of_ble_eq_true rfl) rfl ?_
              refine z_iconst ho dX13_automaton_104 ?_
              refine z_istore ho dX13_automaton_105 (Nat.le_of_ble_eq_true rfl) rfl ?_
              refine z_iload_n ho dX13_automaton_107 rfl ?_
              refine z_iconst ho dX13_automaton_108 ?_
              refine z_icmp_eq (tgt := 153) ho dX13_automaton_109 (by decide) (by unfold rng; omega) (by unfold rng; omega) (fun c109 => ?_) (fun c109 => ?_)
              · 
                refine z_iload_n ho dX13_automaton_153 rfl ?_
                refine z_iconst ho dX13_automaton_154 ?_
                refine z_icmp_ne (tgt := 172) ho dX13_automaton_155 (by decide) rw_ (by unfold rng; omega) (fun c155 => ?_) (fun c155 => ?_)
                · 
                  refine z_iload_n ho dX13_automaton_172 rfl ?_
                  refine z_iconst ho dX13_automaton_173 ?_
                  refine z_icmp_eq (tgt := 196) ho dX13_automaton_174 (by decide) (by unfold rng; omega) (by unfold rng; omega) (fun c174 => ?_) (fun c174 => ?_)
                  · 
                    refine z_iconst ho dX13_automaton_196 ?_
                    refine r_I ho dX13_automaton_197 (Nat.le_of_ble_eq_true rfl) (Nat.le_of_ble_eq_true rfl) ?_
                    exact Or.inr (Or.inr ⟨hw, HQ2, Or.inl ⟨a1, by rw [if_neg c155]⟩⟩)
                  · exact absurd rfl c174
                · 
                  refine z_aload_n ho dX13_automaton_158 rfl ?_
                  refine gX13_196 ho dX13_automaton_159 hm.1 ?_
                  refine z_if_ne (tgt := 169) ho dX13_automaton_162 (by decide) (by rw [e26']; unfold rng; omega) (fun c162 => ?_) (fun c162 => ?_)
                  · rw [e26'] at c162; omega
                  · 
                    refine z_iconst ho dX13_automaton_165 ?_
                    refine z_goto (tgt := 171) ho dX13_automaton_166 (by decide) ?_
                    refine r_I ho dX13_automaton_171 (Nat.le_of_ble_eq_true rfl) (Nat.le_of_ble_eq_true rfl) ?_
                    exact Or.inr (Or.inr ⟨hw, HQ2, Or.inl ⟨a1, by rw [if_pos c155]⟩⟩)
              · exact absurd rfl c109
          · have hst := MAu.sta (Ks := Ks) (RL := RL) b4 b5 b3 b10 b11
            have zn : n26 ≠ 0 := fun z => a1 (n260.mp z)
            have fin : ∀ (s k : Nat), RL[s]? = some (res Ks (tp.take k)) → Far Ks tp k → Z X 153 [some (aR m), some (aI w), some (aI tp.length), some (aI (s : Int)), some (aI (k : Int))] [] v 0 0 := fun s k hs hf => by
              have hsl := (List.getElem?_eq_some_iff.mp hs).1
              have hkl := hf.1
              refine z_iload_n ho dX13_automaton_153 rfl ?_
              refine z_iconst ho dX13_automaton_154 ?_
              refine z_icmp_ne (tgt := 172) ho dX13_automaton_155 (by decide) rw_ (by unfold rng; omega) (fun c155 => ?_) (fun c155 => ?_)
              · have hw4 : w = 4 := by omega
                have zero : tp ∉ Ks → Z X 196 [some (aR m), some (aI w), some (aI tp.length), some (aI (s : Int)), some (aI (k : Int))] [] v 0 0 := fun hno => by
                  refine z_iconst ho dX13_automaton_196 ?_
                  refine r_I ho dX13_automaton_197 (Nat.le_of_ble_eq_true rfl) (Nat.le_of_ble_eq_true rfl) ?_
                  refine Or.inr (Or.inr ⟨hw, HQ2, Or.inr ⟨a1, k, hf, ?_⟩⟩)
                  rw [if_neg c155, if_neg hno]
                refine z_iload_n ho dX13_automaton_172 rfl ?_
                refine z_iconst ho dX13_automaton_173 ?_
                refine z_icmp_eq (tgt := 196) ho dX13_automaton_174 (by decide) (by unfold rng; omega) (by unfold rng; omega) (fun c174 => ?_) (fun c174 => ?_)
                · omega
                · 
                  refine z_iload ho dX13_automaton_177 rfl ?_
                  refine z_iload_n ho dX13_automaton_179 rfl ?_
                  refine z_icmp_ne (tgt := 196) ho dX13_automaton_180 (by decide) (by unfold rng; omega) (by unfold rng; omega) (fun c180 => ?_) (fun c180 => ?_)
                  · refine zero (fun z => hf.2.2 (by omega) ⟨tp, z, List.take_prefix _ _⟩)
                  · have hkn : k = tp.length := by omega
                    have hfin := b9 s _ hs
                    have hres : res Ks (tp.take k) [] ↔ tp ∈ Ks := by unfold res; rw [List.append_nil, hkn, List.take_length]
                    refine z_aload_n ho dX13_automaton_183 rfl ?_
                    refine gX13_78 ho dX13_automaton_184 hm.1 (mget hm.r29 ?_)
                    refine z_iload_n ho dX13_automaton_187 rfl ?_
                    refine z_zald ho dX13_automaton_188 hm.k22 (by omega) (hm.t22 (by omega)) ?_
                    refine z_if_eq (tgt := 196) ho dX13_automaton_189 (by decide) (by rcases hfin with ⟨z, -⟩ | ⟨z, -⟩ <;> rw [z] <;> unfold rng <;> omega) (fun c189 => ?_) (fun c189 => ?_)
                    · exact zero (fun z => (hfin.resolve_left (fun y => by omega)).2 (hres.mpr z))
                    · have hin := hres.mp (hfin.resolve_right (fun y => c189 y.1)).2
                      refine z_iconst ho dX13_automaton_192 ?_
                      refine z_goto (tgt := 197) ho dX13_automaton_193 (by decide) ?_
                      refine r_I ho dX13_automaton_197 (Nat.le_of_ble_eq_true rfl) (Nat.le_of_ble_eq_true rfl) ?_
                      refine Or.inr (Or.inr ⟨hw, HQ2, Or.inr ⟨a1, k, hf, ?_⟩⟩)
                      rw [if_neg c155, if_pos hin]
              · 
                refine z_aload_n ho dX13_automaton_158 rfl ?_
                refine gX13_196 ho dX13_automaton_159 hm.1 ?_
                refine z_if_ne (tgt := 169) ho dX13_automaton_162 (by decide) (by rw [e26']; unfold rng; omega) (fun c162 => ?_) (fun c162 => ?_)
                · 
                  refine z_iload ho dX13_automaton_169 rfl ?_
                  refine r_I ho dX13_automaton_171 (Nat.le_of_ble_eq_true rfl) (Nat.le_of_ble_eq_true rfl) ?_
                  exact Or.inr (Or.inr ⟨hw, HQ2, Or.inr ⟨a1, k, hf, by rw [if_pos c155]⟩⟩)
                · rw [e26'] at c162; omega
            have key : ∀ (d s k : Nat), d + k = tp.length → RL[s]? = some (res Ks (tp.take k)) → Pre Ks (tp.take k) → Z X 107 [some (aR m), some (aI w), some (aI tp.length), some (aI (s : Int)), some (aI (k : Int))] [] v 0 0 := by
              intro d
              induction d with
              | zero =>
                intro s k hk hs hp
                have hsl := (List.getElem?_eq_some_iff.mp hs).1
                refine z_iload_n ho dX13_automaton_107 rfl ?_
                refine z_iconst ho dX13_automaton_108 ?_
                refine z_icmp_eq (tgt := 153) ho dX13_automaton_109 (by decide) (by unfold rng; omega) (by unfold rng; omega) (fun c109 => ?_) (fun c109 => ?_)
                · omega
                · 
                  refine z_iload ho dX13_automaton_112 rfl ?_
                  refine z_iload_n ho dX13_automaton_114 rfl ?_
                  refine z_icmp_ge (tgt := 153) ho dX13_automaton_115 (by decide) (by unfold rng; omega) (by unfold rng; omega) (fun c115 => ?_) (fun c115 => ?_)
                  · exact fin s k hs ⟨by omega, hp, fun z => by omega⟩
                  · omega
              | succ d ih =>
                intro s k hk hs hp
                have hsl := (List.getElem?_eq_some_iff.mp hs).1
                obtain ⟨e1, e2', e3⟩ := tt.at_ (j := (k : Int)) (by omega) (by omega)
                rw [Int.zero_add] at e1 e2' e3
                have hgo := c_go (La_ X) v (s := s) hm hst (by omega) e2' e3
                have hck : tp.take (k + 1) = tp.take k ++ [iv_ v (m + 1) (k : Int)] := by
                  have hkl : k < tp.length := by omega
                  rw [List.take_add_one, e1]
                  unfold _root_.Jvm.Pilot.CKeyHallLaw_law_r3948_e91dda.ch
                  simp [hkl]
                generalize hcc : iv_ v (m + 1) (k : Int) = c at *
                have hpre : (∃ w, res Ks (tp.take k) (c :: w)) ↔ Pre Ks (tp.take (k + 1)) := by
                  rw [hck]
                  constructor
                  · rintro ⟨w, hw⟩
                    exact ⟨_, hw, ⟨w, by simp⟩⟩
                  · rintro ⟨x, hx, w, rfl⟩
                    exact ⟨w, by unfold res; simpa using hx⟩
                have eR : (fun w => res Ks (tp.take k) (c :: w)) = res Ks (tp.take (k + 1)) := by
                  funext w
                  rw [hck]
                  unfold res
                  simp
                refine z_iload_n ho dX13_automaton_107 rfl ?_
                refine z_iconst ho dX13_automaton_108 ?_
                refine z_icmp_eq (tgt := 153) ho dX13_automaton_109 (by decide) (by unfold rng; omega) (by unfold rng; omega) (fun c109 => ?_) (fun c109 => ?_)
                · omega
                · 
                  refine z_iload ho dX13_automaton_112 rfl ?_
                  refine z_iload_n ho dX13_automaton_114 rfl ?_
                  refine z_icmp_ge (tgt := 153) ho dX13_automaton_115 (by decide) (by unfold rng; omega) (by unfold rng; omega) (fun c115 => ?_) (fun c115 => ?_)
                  · omega
                  · 
                    refine z_aload_n ho dX13_automaton_118 rfl ?_
                    refine z_iload_n ho dX13_automaton_119 rfl ?_
                    refine z_aload_n ho dX13_automaton_120 rfl ?_
                    refine gX13_7 ho dX13_automaton_121 hm.1 (mget hm.r1 ?_)
                    refine z_iload ho dX13_automaton_124 rfl ?_
                    refine z_iald ho dX13_automaton_126 hm.k1 (by omega) (hm.t1 (by omega)) ?_
                    rw [hcc]
                    refine kX13_226 ho hN (hgo) dX13_automaton_127 hm.1 (Nat.le_of_ble_eq_true rfl) (Nat.le_of_ble_eq_true rfl) (Nat.le_of_ble_eq_true rfl) (Nat.le_of_ble_eq_true rfl) (fun x127 u127 h127 => ?_)
                    obtain ⟨rfl, hg⟩ := h127
                    refine z_iconst ho dX13_automaton_130 ?_
                    refine z_icmp_eq (tgt := 153) ho dX13_automaton_131 (by decide) (by rcases hg with ⟨z, -⟩ | ⟨t, -, z, z'⟩ <;> rw [z] <;> unfold rng <;> omega) (by unfold rng; omega) (fun c131 => ?_) (fun c131 => ?_)
                    · have hno : ∀ t, (s, c, t) ∉ SL := by
                        rcases hg with z | ⟨t, -, z, -⟩
                        · exact z.2
                        · omega
                      refine fin s k hs ⟨by omega, hp, fun _ hpr => ?_⟩
                      have hex := hpre.mpr hpr
                      have hmem := (b1.2 (res Ks (tp.take (k + 1)))).mpr ⟨_, hpr, rfl⟩
                      obtain ⟨t, ht, e⟩ := List.mem_iff_getElem.mp hmem
                      exact hno t ((b11 s c t).mpr ⟨_, hs, hex, by rw [List.getElem?_eq_getElem ht, e, eR]⟩)
                    · obtain ⟨t, ht, -, -⟩ := hg.resolve_left (fun z => c131 z.1)
                      refine z_aload_n ho dX13_automaton_134 rfl ?_
                      refine z_iload_n ho dX13_automaton_135 rfl ?_
                      refine z_aload_n ho dX13_automaton_136 rfl ?_
                      refine gX13_7 ho dX13_automaton_137 hm.1 (mget hm.r1 ?_)
                      refine z_iload ho dX13_automaton_140 rfl ?_
                      refine z_iald ho dX13_automaton_142 hm.k1 (by omega) (hm.t1 (by omega)) ?_
                      rw [hcc]
                      refine kX13_226 ho hN (hgo) dX13_automaton_143 hm.1 (Nat.le_of_ble_eq_true rfl) (Nat.le_of_ble_eq_true rfl) (Nat.le_of_ble_eq_true rfl) (Nat.le_of_ble_eq_true rfl) (fun x143 u143 h143 => ?_)
                      obtain ⟨rfl, hg2⟩ := h143
                      refine z_istore_n ho dX13_automaton_146 (Nat.le_of_ble_eq_true rfl) rfl ?_
                      refine z_iinc ho dX13_automaton_147 rfl rfl ?_
                      refine z_goto (tgt := 107) ho dX13_automaton_150 (by decide) ?_
                      obtain ⟨t2, ht2, hx2, -⟩ := hg2.resolve_left (fun z => z.2 t ht)
                      rw [hx2]
                      obtain ⟨R, r1, r2, r3⟩ := (b11 s c t2).mp ht2
                      rw [hs] at r1
                      cases r1
                      rw [eR] at r3
                      exact ih t2 (k + 1) (by omega) r3 (hpre.mp r2)
            refine z_aload_n ho dX13_automaton_88 rfl ?_
            refine gX13_196 ho dX13_automaton_89 hm.1 ?_
            refine z_if_ne (tgt := 99) ho dX13_automaton_92 (by decide) (by rw [e26']; unfold rng; omega) (fun c92 => ?_) (fun c92 => ?_)
            · 
              refine z_aload_n ho dX13_automaton_99 rfl ?_
              refine gX13_202 ho dX13_automaton_100 hm.1 ?_
              rw [b7]
              refine z_istore_n ho dX13_automaton_103 (Nat.le_of_ble_eq_true rfl) rfl ?_
              refine z_iconst ho dX13_automaton_104 ?_
              refine z_istore ho dX13_automaton_105 (Nat.le_of_ble_eq_true rfl) rfl ?_
              obtain ⟨k0, hk0⟩ := List.exists_mem_of_ne_nil _ a1
              exact key tp.length s0 0 rfl b8 ⟨k0, hk0, List.nil_prefix⟩
            · rw [e26'] at c92; omega
        refine z_iload_n ho dX13_automaton_66 rfl ?_
        refine z_iconst ho dX13_automaton_67 ?_
        refine z_icmp_eq (tgt := 78) ho dX13_automaton_68 (by decide) rw_ (by unfold rng; omega) (fun c68 => ?_) (fun c68 => ?_)
        · exact go (Or.inl c68)
        · 
          refine z_iload_n ho dX13_automaton_71 rfl ?_
          refine z_iconst ho dX13_automaton_72 ?_
          refine z_icmp_eq (tgt := 78) ho dX13_automaton_73 (by decide) rw_ (by unfold rng; omega) (fun c73 => ?_) (fun c73 => ?_)
          · exact go (Or.inr c73)
          · 
            refine z_iconst ho dX13_automaton_76 ?_
            refine r_I ho dX13_automaton_77 (Nat.le_of_ble_eq_true rfl) (Nat.le_of_ble_eq_true rfl) ?_
            exact Or.inl ⟨by omega, rfl, HQ⟩
      · subst c26
        rcases hA with ⟨a1, a2, -⟩ | ⟨a1, RL, SL, b1, b2, b3, b4, b5, b6, b7, b9, -⟩
        · have key : Z X 33 [some (aR m), some (aI 2), some (aI 0), some (aI 0), none] [] (wI_ u m 0 0) 0 0 := by
            refine z_iload_n ho dX13_automaton_33 rfl ?_
            refine z_aload_n ho dX13_automaton_34 rfl ?_
            refine gX13_196 ho dX13_automaton_35 hm.1 ?_
            refine z_icmp_ge (tgt := 64) ho dX13_automaton_38 (by decide) (by unfold rng; omega) (by rw [a2]; unfold rng; omega) (fun c38 => ?_) (fun c38 => ?_)
            · 
              refine z_iload_n ho dX13_automaton_64 rfl ?_
              refine r_I ho dX13_automaton_65 (Nat.le_of_ble_eq_true rfl) (Nat.le_of_ble_eq_true rfl) ?_
              exact Or.inr (Or.inl ⟨by omega, by omega, HQ, [], by rw [a1]; exact c0, rfl⟩)
            · rw [a2] at c38; omega
          refine z_iconst ho dX13_automaton_29 ?_
          refine z_istore_n ho dX13_automaton_30 (Nat.le_of_ble_eq_true rfl) rfl ?_
          refine z_iconst ho dX13_automaton_31 ?_
          refine z_istore_n ho dX13_automaton_32 (Nat.le_of_ble_eq_true rfl) rfl ?_
          exact key
        · have key : ∀ (d k : Nat), d + k = RL.length → Z X 33 [some (aR m), some (aI 2), some (aI (((RL.take k).map (num_ 2)).sum : Nat)), some (aI (k : Int)), none] [] (wI_ u m 0 0) 0 0 := by
            intro d
            induction d with
            | zero =>
              intro k hk
              refine z_iload_n ho dX13_automaton_33 rfl ?_
              refine z_aload_n ho dX13_automaton_34 rfl ?_
              refine gX13_196 ho dX13_automaton_35 hm.1 ?_
              refine z_icmp_ge (tgt := 64) ho dX13_automaton_38 (by decide) (by unfold rng; omega) (by rw [b2]; unfold rng; omega) (fun c38 => ?_) (fun c38 => ?_)
              · 
                refine z_iload_n ho dX13_automaton_64 rfl ?_
                refine r_I ho dX13_automaton_65 (Nat.le_of_ble_eq_true rfl) (Nat.le_of_ble_eq_true rfl) ?_
                refine Or.inr (Or.inl ⟨by omega, by omega, HQ, RL, b1, ?_⟩)
                unfold nums
                rw [List.take_of_length_le (by omega)]
              · omega
            | succ d ih =>
              intro k hk
              have hkR : RL[k]? = some RL[k] := List.getElem?_eq_getElem (by omega)
              generalize RL[k] = R at hkR
              have nx := ih (k + 1) (by omega)
              have tk : ((RL.take (k + 1)).map (num_ 2)).sum = ((RL.take k).map (num_ 2)).sum + num_ 2 R := by rw [List.take_add_one, hkR, List.map_append, List.sum_append]; simp
              have hfin := b9 k R hkR
              have t56 : ∀ b : Int, (num_ 2 R : Int) = b → Z X 56 [some (aR m), some (aI 2), some (aI (((RL.take k).map (num_ 2)).sum : Nat)), some (aI (k : Int)), none] [aI b, aI (((RL.take k).map (num_ 2)).sum : Nat)] (wI_ u m 0 0) 0 0 := fun b hb => by
                refine z_iadd ho dX13_automaton_56 ?_
                refine z_istore_n ho dX13_automaton_57 (Nat.le_of_ble_eq_true rfl) rfl ?_
                refine z_iinc ho dX13_automaton_58 rfl rfl ?_
                refine z_goto (tgt := 33) ho dX13_automaton_61 (by decide) ?_
                rw [tk] at nx
                rw [← hb]
                exact nx
              refine z_iload_n ho dX13_automaton_33 rfl ?_
              refine z_aload_n ho dX13_automaton_34 rfl ?_
              refine gX13_196 ho dX13_automaton_35 hm.1 ?_
              refine z_icmp_ge (tgt := 64) ho dX13_automaton_38 (by decide) (by unfold rng; omega) (by rw [b2]; unfold rng; omega) (fun c38 => ?_) (fun c38 => ?_)
              · omega
              · 
                refine z_iload_n ho dX13_automaton_41 rfl ?_
                refine z_aload_n ho dX13_automaton_42 rfl ?_
                refine gX13_78 ho dX13_automaton_43 hm.1 (mget hm.r29 ?_)
                refine z_iload_n ho dX13_automaton_46 rfl ?_
                refine z_zald ho dX13_automaton_47 hm.k22 (by omega) (hm.t22 (by omega)) ?_
                refine z_if_eq (tgt := 55) ho dX13_automaton_48 (by decide) (by rcases hfin with ⟨z, -⟩ | ⟨z, -⟩ <;> rw [z] <;> unfold rng <;> omega) (fun c48 => ?_) (fun c48 => ?_)
                · have hno := (hfin.resolve_left (fun z => by omega)).2
                  refine z_iconst ho dX13_automaton_55 ?_
                  exact t56 0 (by unfold num_ fin_; simp [hno])
                · have hyes := (hfin.resolve_right (fun z => c48 z.1)).2
                  refine z_iconst ho dX13_automaton_51 ?_
                  refine z_goto (tgt := 56) ho dX13_automaton_52 (by decide) ?_
                  exact t56 1 (by unfold num_ fin_; simp [hyes])
          refine z_iconst ho dX13_automaton_29 ?_
          refine z_istore_n ho dX13_automaton_30 (Nat.le_of_ble_eq_true rfl) rfl ?_
          refine z_iconst ho dX13_automaton_31 ?_
          refine z_istore_n ho dX13_automaton_32 (Nat.le_of_ble_eq_true rfl) rfl ?_
          exact key RL.length 0 rfl
    · subst c16
      refine z_aload_n ho dX13_automaton_19 rfl ?_
      refine gX13_199 ho dX13_automaton_20 hm.1 ?_
      refine r_I ho dX13_automaton_23 (Nat.le_of_ble_eq_true rfl) (Nat.le_of_ble_eq_true rfl) ?_
      refine Or.inr (Or.inl ⟨by omega, by omega, HQ, ?_⟩)
      rcases hA with ⟨a1, a2, a3⟩ | ⟨a1, RL, SL, b1, b2, b3, b4, b5, b6, b7, b9, b10, b11⟩
      · exact ⟨[], by rw [a1]; exact c0, a3⟩
      · exact ⟨RL, b1, by rw [← nums1 b6 b1 b11]; exact b4⟩
  · subst c6
    refine z_aload_n ho dX13_automaton_9 rfl ?_
    refine gX13_196 ho dX13_automaton_10 hm.1 ?_
    refine r_I ho dX13_automaton_13 (Nat.le_of_ble_eq_true rfl) (Nat.le_of_ble_eq_true rfl) ?_
    refine Or.inr (Or.inl ⟨by omega, by omega, HQ, ?_⟩)
    rcases hA with ⟨a1, a2, -⟩ | ⟨a1, RL, SL, b1, b2, -⟩
    · exact ⟨[], by rw [a1]; exact c0, a2⟩
    · exact ⟨RL, b1, by rw [nums0]; exact b2⟩
