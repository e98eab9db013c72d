set_option maxRecDepth 100000
/-! ===== the automaton when it is made: end, count, goes ===== -/
def Pre (Ks : List (List Int)) (p : List Int) : Prop := ∃ k ∈ Ks, p <+: k
/-- the kinds of what is left behind what keys begin with -/
def Cls (Ks : List (List Int)) (Rs : List (List Int → Prop)) : Prop := Rs.Nodup ∧ ∀ R, R ∈ Rs ↔ ∃ p, Pre Ks p ∧ R = res Ks p
def degp (R : List Int → Prop) (m : Nat) : Prop := ∃ D : List Int, D.Nodup ∧ (∀ c, c ∈ D ↔ ∃ w, R (c :: w)) ∧ m = D.length
theorem degp.uniq {R : List Int → Prop} {m m' : Nat} (h : degp R m) (h' : degp R m') : m = m' := by
  obtain ⟨D, d1, d2, rfl⟩ := h
  obtain ⟨E, e1, e2, rfl⟩ := h'
  exact nd_len d1 e1 (fun b => by rw [d2, e2])
/-- the number of ways on; 1 if it may end here -/
noncomputable def deg (R : List Int → Prop) : Nat := @dite Nat (∃ m, degp R m) (Classical.propDecidable _) (fun h => Classical.choose h) (fun _ => 0)
noncomputable def fin_ (R : List Int → Prop) : Nat := @ite Nat (R []) (Classical.propDecidable _) 1 0
theorem deg_of {R : List Int → Prop} {m : Nat} (h : degp R m) : deg R = m := by
  have hx : ∃ m, degp R m := ⟨m, h⟩
  unfold deg
  rw [dif_pos hx]
  exact (Classical.choose_spec hx).uniq h
/-- the three numbers of an automaton -/
noncomputable def num_ (what : Int) (R : List Int → Prop) : Nat := if what = 0 then 1 else if what = 2 then fin_ R else if what = 1 then deg R else 0
noncomputable def nums (what : Int) (Rs : List (List Int → Prop)) : Nat := (Rs.map (num_ what)).sum
theorem Cls.nums {Ks Ks' : List (List Int)} {Rs Rs' : List (List Int → Prop)} (h : Cls Ks Rs) (h' : Cls Ks' Rs') (hk : ∀ x, x ∈ Ks ↔ x ∈ Ks') (what : Int) : nums what Rs = nums what Rs' := by
  have e : ∀ p, res Ks p = res Ks' p := fun p => funext fun w => propext (hk _)
  have e2 : ∀ p, Pre Ks p ↔ Pre Ks' p := fun p => by unfold Pre; simp only [hk]
  have p : Rs.Perm Rs' := (List.perm_ext_iff_of_nodup h.1 h'.1).mpr (fun R => by rw [h.2, h'.2]; simp only [e, e2])
  exact (p.map _).sum_nat
def AZ (v : Mem) (au a0 a1 a2 a3 a4 a8 : Nat) (Ks : List (List Int)) : Prop := (Ks = [] ∧ iv_ v au 7 = -1 ∧ iv_ v au 9 = 0) ∨ (Ks ≠ [] ∧ ∃ n pf St KL s0, LSt v au a0 a1 a2 a3 a4 a8 n pf St Ks KL ∧ iv_ v au 7 = ((s0 : Nat) : Int) ∧ s0 ∈ KL ∧ res Ks (pf s0) = res Ks [] ∧ ∀ x, x < n → ∃ y ∈ KL, res Ks (pf y) = res Ks (pf x))
theorem AX.same_ {u v : Mem} {au a0 a1 a2 a3 a4 a8 : Nat} (h : AX u au a0 a1 a2 a3 a4 a8) (hk : ∀ a, kd_ v a = kd_ u a ∧ ln_ v a = ln_ u a) (hr : ∀ a i, _root_.Jvm.Pilot.CKeyHallLaw_law_r3948_e91dda.rv_ v a i = _root_.Jvm.Pilot.CKeyHallLaw_law_r3948_e91dda.rv_ u a i) : AX v au a0 a1 a2 a3 a4 a8 := by
  unfold AX at h ⊢
  simp only [fun a => (hk a).1, fun a => (hk a).2, hr]
  exact h
theorem c_aend (l : Launch) (u : Mem) {au a0 a1 a2 a3 a4 a8 : Nat} {Ks : List (List Int)} (hX : AX u au a0 a1 a2 a3 a4 a8) (hA : AB u au a0 a1 a2 a3 a4 Ks) (hKs : Ks.length ≤ 60) (hK8 : ∀ k ∈ Ks, k.length ≤ 8) :
    Mt_ l yX9_end cX9_end 1 none 11 0 0 [aR au] u (qV fun v => AZ v au a0 a1 a2 a3 a4 a8 Ks ∧ Fr (aQ au a0 a1 a2 a3 a4 a8) u v ∧ sz_ v = sz_ u ∧ AX v au a0 a1 a2 a3 a4 a8) := by
  obtain ⟨n1, n2, n3⟩ := hX.ne
  have ka := hX.1.1
  refine Mt_of (by decide) (Nat.le_of_ble_eq_true rfl) (fun X ho hX hN hI => ?_)
  subst hX
  show Z X 0 [some (aR au)] [] u 0 0
  rcases hA with ⟨hK0, b5, b6, b7, b9⟩ | ⟨hKn, n, pf, St, hL, hn⟩
  · 
    refine z_aload_n ho dX9_end_0 rfl ?_
    refine gX9_42 ho dX9_end_1 ka ?_
    refine z_iconst ho dX9_end_4 ?_
    refine z_icmp_eq (tgt := 20) ho dX9_end_5 (by decide) (by rw [b7]; unfold rng; omega) (by unfold rng; omega) (fun c5 => ?_) (fun c5 => ?_)
    · 
      refine r_V ho dX9_end_20 (Nat.le_of_ble_eq_true rfl) (Nat.le_of_ble_eq_true rfl) ?_
      exact ⟨Or.inl ⟨hK0, b7, b9⟩, Fr.rf _ _, rfl, hX⟩
    · exact absurd b7 c5
  · obtain ⟨h1, ⟨h2, h3, h4, h5⟩, h6, h7, h8⟩ := hL
    obtain ⟨k0, hk0⟩ := List.exists_mem_of_ne_nil _ hKn
    have hNd : Nds n pf Ks := fun p => by
      rw [h6 p]
      constructor
      · rintro (q | q)
        · exact q
        · exact ⟨k0, hk0, q.trans List.nil_prefix⟩
      · exact Or.inl
    have hLS : LSt u au a0 a1 a2 a3 a4 a8 n pf St Ks [] := ⟨h1, hNd, h7, fun t ht => (h8 t ht).2, ⟨by omega, h5, List.nodup_nil, fun j x hx => by simp at hx⟩, fun s hs => by simp at hs, fun a ha => by simp at ha⟩
    have e0 : iv_ u au 7 = ((0 : Nat) : Int) := h4
    refine z_aload_n ho dX9_end_0 rfl ?_
    refine gX9_42 ho dX9_end_1 ka ?_
    refine z_iconst ho dX9_end_4 ?_
    refine z_icmp_eq (tgt := 20) ho dX9_end_5 (by decide) (by rw [h4]; unfold rng; omega) (by unfold rng; omega) (fun c5 => ?_) (fun c5 => ?_)
    · omega
    · 
      refine z_aload_n ho dX9_end_8 rfl ?_
      refine z_aload_n ho dX9_end_9 rfl ?_
      refine z_aload_n ho dX9_end_10 rfl ?_
      refine gX9_42 ho dX9_end_11 ka ?_
      rw [e0]
      refine kX9_61 ho hN (c_least _ hK8 9 u 0 [] (by rw [h1.2.1]; rfl) hX hLS h1.1 (fun t ht _ _ => (h8 t ht).1) (fun x hx => by simp at hx)) dX9_end_14 (Nat.le_of_ble_eq_true rfl) (Nat.le_of_ble_eq_true rfl) (Nat.le_of_ble_eq_true rfl) (Nat.le_of_ble_eq_true rfl) (fun x14 u14 h14 => ?_)
      obtain ⟨w1, KL, r, hr, w2, w3, w4, w5, w6, w7, w8⟩ := h14
      refine pX9_42 ho dX9_end_17 (by rw [(w1.2.1 _).1]; exact ka)  ?_
      refine r_V ho dX9_end_20 (Nat.le_of_ble_eq_true rfl) (Nat.le_of_ble_eq_true rfl) ?_
      rw [hr]
      have ei : ∀ b, b ≠ au → iv_ (wI_ u14 au 7 (r : Int)) b = iv_ u14 b := fun b hb => by
        funext i
        rw [iv_wI, if_neg (fun z => hb z.1)]
      obtain ⟨q1, q2, q3, q4, ⟨q5, q6, q7, q8⟩, q9⟩ := w2
      refine ⟨Or.inr ⟨hKn, n, pf, St, KL, r, ⟨?_, q2, ?_, ?_, ⟨q5, ?_, q7, ?_⟩, ?_⟩, by rw [iv_wI, if_pos ⟨rfl, rfl⟩], w4, by rw [w5, h1.2.1], fun x hx => w7 x hx (by rw [h1.2.1]; exact List.nil_prefix)⟩, w1.fr.nI (Or.inr (Or.inl rfl)), w1.1, hX.same_ (fun a => w1.2.1 a) (fun a i => w1.2.2.1 a i)⟩
      · rw [ei a1 (Ne.symm n1.2.1), ei a4 (Ne.symm n1.2.2.2.2.1), ei a2 (Ne.symm n1.2.2.1)]; exact q1
      · rw [ei a0 (Ne.symm n1.1)]; exact q3
      · rw [ei a2 (Ne.symm n1.2.2.1)]; exact q4
      · rw [iv_wI, if_neg (by omega)]; exact q6
      · rw [ei a8 (Ne.symm n1.2.2.2.2.2)]; exact q8
      · rw [ei a3 (Ne.symm n1.2.2.2.1)]; exact q9
/-- the states that are kept, by what is left behind them -/
theorem LSt.cls {v : Mem} {au a0 a1 a2 a3 a4 a8 n : Nat} {pf : Nat → List Int} {St : Nat → List Nat} {Ks : List (List Int)} {KL : List Nat} (h : LSt v au a0 a1 a2 a3 a4 a8 n pf St Ks KL) (hc : ∀ x, x < n → ∃ y ∈ KL, res Ks (pf y) = res Ks (pf x)) : Cls Ks (KL.map (fun s => res Ks (pf s))) := by
  obtain ⟨q1, q2, q3, q4, ⟨q5, q6, q7, q8⟩, q9⟩ := h
  refine ⟨?_, fun R => ?_⟩
  · refine List.pairwise_map.mpr ((List.Pairwise.and_mem.mp q7).imp (fun {a b} hab e => hab.2.2 (q9.2 a hab.1 b hab.2.1 e)))
  · rw [List.mem_map]
    constructor
    · rintro ⟨s, hs, rfl⟩
      exact ⟨pf s, (q2 (pf s)).mp ⟨s, (q9.1 s hs).1, rfl⟩, rfl⟩
    · rintro ⟨p, hp, rfl⟩
      obtain ⟨s, s1, s2⟩ := (q2 p).mpr hp
      obtain ⟨y, y1, y2⟩ := hc s s1
      exact ⟨y, y1, by rw [y2, s2]⟩
theorem TI.deg {fs nx lt : Int → Int} {n : Nat} {pf : Nat → List Int} {St : Nat → List Nat} {Ks : List (List Int)} (h : TI fs nx lt n pf St) (hN : Nds n pf Ks) {s : Nat} (hs : s < n) : deg (res Ks (pf s)) = (St s).length := by
  refine deg_of ⟨(St s).map (fun (t : Nat) => lt (t : Int)), ?_, fun c => ?_, by simp⟩
  · exact List.pairwise_map.mpr ((h.2.2.2.2.2.2 s hs).imp (fun {a b} hab e => by rw [e] at hab; omega))
  · rw [List.mem_map]
    constructor
    · rintro ⟨t, ht, rfl⟩
      obtain ⟨w, hw⟩ := hN.some (h.2.2.2.1 s hs t ht).1
      exact ⟨w, (h.res_cons hN hs _ w).mpr ⟨t, ht, rfl, hw⟩⟩
    · rintro ⟨w, hw⟩
      obtain ⟨t, t1, t2, -⟩ := (h.res_cons hN hs _ w).mp hw
      exact ⟨t, t1, t2⟩
theorem c_count (l : Launch) (u : Mem) {au a0 a1 a2 a3 a4 a8 : Nat} {Ks : List (List Int)} {what : Int} (hX : AX u au a0 a1 a2 a3 a4 a8) (hA : AZ u au a0 a1 a2 a3 a4 a8 Ks) (hw0 : 0 ≤ what) (hw1 : what < 3) :
    Mt_ l yX9_count cX9_count 5 (some .int) 0 0 0 [aR au, aI what] u (qI fun r v => u = v ∧ ∃ Rs, Cls Ks Rs ∧ r = nums what Rs) := by
  obtain ⟨⟨ka, r0, r1, r2, r3, r4, r8⟩, ⟨k0, l0⟩, ⟨k1, l1⟩, ⟨k2, l2⟩, ⟨k3, l3⟩, ⟨k4, l4⟩, ⟨k8, l8⟩, -⟩ := hX
  refine Mt_of (by decide) (Nat.le_of_ble_eq_true rfl) (fun X ho hX hN hI => ?_)
  subst hX
  show Z X 0 [some (aR au), some (aI what), none, none, none] [] u 0 0
  rcases hA with ⟨hK0, b7, b9⟩ | ⟨hKn, n, pf, St, KL, s0, hLS, hs0, hs0m, hs0r, hcov⟩
  · 
    refine z_iconst ho dX9_count_0 ?_
    refine z_istore_n ho dX9_count_1 (Nat.le_of_ble_eq_true rfl) rfl ?_
    refine z_iconst ho dX9_count_2 ?_
    refine z_istore_n ho dX9_count_3 (Nat.le_of_ble_eq_true rfl) rfl ?_
    refine z_iload_n ho dX9_count_4 rfl ?_
    refine z_aload_n ho dX9_count_5 rfl ?_
    refine gX9_39 ho dX9_count_6 ka ?_
    refine z_icmp_ge (tgt := 83) ho dX9_count_9 (by decide) (by unfold rng; omega) (by rw [b9]; unfold rng; omega) (fun c9 => ?_) (fun c9 => ?_)
    · 
      refine z_iload_n ho dX9_count_83 rfl ?_
      refine r_I ho dX9_count_84 (Nat.le_of_ble_eq_true rfl) (Nat.le_of_ble_eq_true rfl) ?_
      refine ⟨rfl, [], ⟨List.nodup_nil, fun R => ?_⟩, rfl⟩
      rw [hK0]
      constructor
      · intro z; simp at z
      · rintro ⟨p, ⟨k, q, -⟩, -⟩; simp at q
    · omega
  · have hcls := hLS.cls hcov
    obtain ⟨q1, q2, q3, q4, ⟨q5, q6, q7, q8⟩, q9⟩ := hLS
    have hKl : KL.length ≤ 513 := by
      have := nd_sub KL (List.range n) q7 (fun x hx => List.mem_range.mpr (q9.1 x hx).1)
      simp at this
      omega
    have deg := fun (s : Nat) (hs : s ∈ KL) => q1.deg q2 (q9.1 s hs).1
    have fin : ∀ s ∈ KL, (iv_ u a0 (s : Int) = 1 ∧ fin_ (res Ks (pf s)) = 1) ∨ (iv_ u a0 (s : Int) = 0 ∧ fin_ (res Ks (pf s)) = 0) := fun s hs => by
      rcases q3 s (q9.1 s hs).1 with z | z
      · left
        refine ⟨z.1, ?_⟩
        unfold fin_
        rw [if_pos]
        show pf s ++ [] ∈ Ks
        rw [List.append_nil]; exact z.2
      · right
        refine ⟨z.1, ?_⟩
        unfold fin_
        rw [if_neg]
        show ¬ pf s ++ [] ∈ Ks
        rw [List.append_nil]; exact z.2
    have key : ∀ (B A : List Nat) (tm : Option AV), KL = A ++ B → Z X 4 [some (aR au), some (aI what), some (aI ((nums what (A.map (fun s => res Ks (pf s))) : Nat) : Int)), some (aI (A.length : Int)), tm] [] u 0 0 := by
      intro B
      induction B with
      | nil =>
        intro A tm hA
        rw [List.append_nil] at hA
        subst hA
        refine z_iload_n ho dX9_count_4 rfl ?_
        refine z_aload_n ho dX9_count_5 rfl ?_
        refine gX9_39 ho dX9_count_6 ka ?_
        refine z_icmp_ge (tgt := 83) ho dX9_count_9 (by decide) (by unfold rng; omega) (by rw [q6]; unfold rng; omega) (fun c9 => ?_) (fun c9 => ?_)
        · 
          refine z_iload_n ho dX9_count_83 rfl ?_
          refine r_I ho dX9_count_84 (Nat.le_of_ble_eq_true rfl) (Nat.le_of_ble_eq_true rfl) ?_
          exact ⟨rfl, _, hcls, rfl⟩
        · omega
      | cons s B ih =>
        intro A tm hA
        have hsm : s ∈ KL := by rw [hA]; simp
        have hsn := (q9.1 s hsm).1
        have hlen : KL.length = A.length + (B.length + 1) := by rw [hA]; simp
        have e8 : iv_ u a8 (A.length : Int) = (s : Int) := q8 A.length s (by rw [hA]; simp)
        have enum : ∀ x : Nat, num_ what (res Ks (pf s)) = x → nums what ((A ++ [s]).map (fun s => res Ks (pf s))) = nums what (A.map (fun s => res Ks (pf s))) + x := fun x hx => by
          unfold nums
          simp [hx]
        have nxt : ∀ (x : Nat) (N : Int) (tm : Option AV), N = ((nums what (A.map (fun s => res Ks (pf s))) + x : Nat) : Int) → num_ what (res Ks (pf s)) = x → Z X 77 [some (aR au), some (aI what), some (aI N), some (aI (A.length : Int)), tm] [] u 0 0 := fun x N tm hN hx => by
          refine z_iinc ho dX9_count_77 rfl rfl ?_
          refine z_goto (tgt := 4) ho dX9_count_80 (by decide) ?_
          have := ih (A ++ [s]) tm (by rw [hA]; simp)
          rw [enum x hx, List.length_append] at this
          rw [hN]
          exact this
        have inner : what = 1 → ∀ (M pre : List Nat) (x : Int) (N : Int), St s = pre ++ M → Ch (iv_ u a4) x M → N = ((nums what (A.map (fun s => res Ks (pf s))) + pre.length : Nat) : Int) → Z X 51 [some (aR au), some (aI what), some (aI N), some (aI (A.length : Int)), some (aI x)] [] u 0 0 := by
          intro hw M
          induction M with
          | nil =>
            intro pre x N h1 h2 h3
            have hx : x = -1 := h2
            subst hx
            rw [List.append_nil] at h1
            refine z_iload ho dX9_count_51 rfl ?_
            refine z_iconst ho dX9_count_53 ?_
            refine z_icmp_eq (tgt := 77) ho dX9_count_54 (by decide) (by unfold rng; omega) (by unfold rng; omega) (fun c54 => ?_) (fun c54 => ?_)
            · exact nxt pre.length _ _ h3 (by unfold num_; rw [hw, if_neg (by decide), if_neg (by decide), if_pos rfl, deg s hsm, h1])
            · exact absurd rfl c54
          | cons t M ihM =>
            intro pre x N h1 h2 h3
            obtain ⟨hx, h2⟩ := h2
            subst hx
            have ht := (q1.2.2.2.1 s hsn t (by rw [h1]; simp)).1
            refine z_iload ho dX9_count_51 rfl ?_
            refine z_iconst ho dX9_count_53 ?_
            refine z_icmp_eq (tgt := 77) ho dX9_count_54 (by decide) (by unfold rng; omega) (by unfold rng; omega) (fun c54 => ?_) (fun c54 => ?_)
            · omega
            · 
              refine z_iload_n ho dX9_count_57 rfl ?_
              refine z_iconst ho dX9_count_58 ?_
              refine z_icmp_ne (tgt := 77) ho dX9_count_59 (by decide) (by unfold rng; omega) (by unfold rng; omega) (fun c59 => ?_) (fun c59 => ?_)
              · exact absurd hw c59
              · 
                refine z_iinc ho dX9_count_62 rfl rfl ?_
                refine z_aload_n ho dX9_count_65 rfl ?_
                refine gX9_26 ho dX9_count_66 ka ?_
                rw [r4]
                refine z_iload ho dX9_count_69 rfl ?_
                refine z_iald ho dX9_count_71 k4 (by omega) (by omega) ?_
                refine z_istore ho dX9_count_72 (Nat.le_of_ble_eq_true rfl) rfl ?_
                refine z_goto (tgt := 51) ho dX9_count_74 (by decide) ?_
                refine ihM (pre ++ [t]) _ _ (by rw [h1]; simp) h2 ?_
                rw [h3]
                simp
                omega
        have at38 : ∀ (x : Nat) (N : Int), N = ((nums what (A.map (fun s => res Ks (pf s))) + x : Nat) : Int) → ((what = 1 ∧ x = 0) ∨ (what ≠ 1 ∧ num_ what (res Ks (pf s)) = x)) → Z X 38 [some (aR au), some (aI what), some (aI N), some (aI (A.length : Int)), tm] [] u 0 0 := fun x N hN hx => by
          refine z_aload_n ho dX9_count_38 rfl ?_
          refine gX9_15 ho dX9_count_39 ka ?_
          rw [r1]
          refine z_aload_n ho dX9_count_42 rfl ?_
          refine gX9_29 ho dX9_count_43 ka ?_
          rw [r8]
          refine z_iload_n ho dX9_count_46 rfl ?_
          refine z_iald ho dX9_count_47 k8 (by omega) (by omega) ?_
          rw [e8]
          refine z_iald ho dX9_count_48 k1 (by omega) (by omega) ?_
          refine z_istore ho dX9_count_49 (Nat.le_of_ble_eq_true rfl) rfl ?_
          rcases hx with ⟨hw, hx⟩ | ⟨hw, hx⟩
          · exact inner hw (St s) [] _ _ rfl (q1.2.2.1 s hsn) (by rw [hN, hx]; rfl)
          · have hrg : rng (iv_ u a1 (s : Int)) := by
              have hch := q1.2.2.1 s hsn
              cases hS : St s with
              | nil => rw [hS] at hch; have : iv_ u a1 (s : Int) = -1 := hch; rw [this]; unfold rng; omega
              | cons t M =>
                rw [hS] at hch
                have := hch.1
                have := (q1.2.2.2.1 s hsn t (by rw [hS]; simp)).1
                unfold rng; omega
            refine z_iload ho dX9_count_51 rfl ?_
            refine z_iconst ho dX9_count_53 ?_
            refine z_icmp_eq (tgt := 77) ho dX9_count_54 (by decide) hrg (by unfold rng; omega) (fun c54 => ?_) (fun c54 => ?_)
            · exact nxt x _ _ hN hx
            · 
              refine z_iload_n ho dX9_count_57 rfl ?_
              refine z_iconst ho dX9_count_58 ?_
              refine z_icmp_ne (tgt := 77) ho dX9_count_59 (by decide) (by unfold rng; omega) (by unfold rng; omega) (fun c59 => ?_) (fun c59 => ?_)
              · exact nxt x _ _ hN hx
              · omega
        refine z_iload_n ho dX9_count_4 rfl ?_
        refine z_aload_n ho dX9_count_5 rfl ?_
        refine gX9_39 ho dX9_count_6 ka ?_
        refine z_icmp_ge (tgt := 83) ho dX9_count_9 (by decide) (by unfold rng; omega) (by rw [q6]; unfold rng; omega) (fun c9 => ?_) (fun c9 => ?_)
        · omega
        · 
          refine z_iload_n ho dX9_count_12 rfl ?_
          refine z_if_eq (tgt := 35) ho dX9_count_13 (by decide) (by unfold rng; omega) (fun c13 => ?_) (fun c13 => ?_)
          · 
            refine z_iinc ho dX9_count_35 rfl rfl ?_
            exact at38 1 _ (by omega) (Or.inr ⟨by omega, by unfold num_; rw [if_pos c13]⟩)
          · 
            refine z_iload_n ho dX9_count_16 rfl ?_
            refine z_iconst ho dX9_count_17 ?_
            refine z_icmp_ne (tgt := 38) ho dX9_count_18 (by decide) (by unfold rng; omega) (by unfold rng; omega) (fun c18 => ?_) (fun c18 => ?_)
            · have : what = 1 := by omega
              exact at38 0 _ rfl (Or.inl ⟨this, rfl⟩)
            · 
              refine z_aload_n ho dX9_count_21 rfl ?_
              refine gX9_11 ho dX9_count_22 ka ?_
              rw [r0]
              refine z_aload_n ho dX9_count_25 rfl ?_
              refine gX9_29 ho dX9_count_26 ka ?_
              rw [r8]
              refine z_iload_n ho dX9_count_29 rfl ?_
              refine z_iald ho dX9_count_30 k8 (by omega) (by omega) ?_
              rw [e8]
              refine z_zald ho dX9_count_31 k0 (by omega) (by omega) ?_
              refine z_if_eq (tgt := 38) ho dX9_count_32 (by decide) (by rcases fin s hsm with ⟨z, -⟩ | ⟨z, -⟩ <;> rw [z] <;> unfold rng <;> omega) (fun c32 => ?_) (fun c32 => ?_)
              · refine at38 0 _ rfl (Or.inr ⟨by omega, ?_⟩)
                unfold num_
                rw [if_neg c13, if_pos c18]
                rcases fin s hsm with ⟨z, -⟩ | ⟨-, z⟩
                · rw [z] at c32; exact absurd c32 (by decide)
                · exact z
              · 
                refine z_iinc ho dX9_count_35 rfl rfl ?_
                refine at38 1 _ (by omega) (Or.inr ⟨by omega, ?_⟩)
                unfold num_
                rw [if_neg c13, if_pos c18]
                rcases fin s hsm with ⟨-, z⟩ | ⟨z, -⟩
                · exact z
                · exact absurd z c32
    refine z_iconst ho dX9_count_0 ?_
    refine z_istore_n ho dX9_count_1 (Nat.le_of_ble_eq_true rfl) rfl ?_
    refine z_iconst ho dX9_count_2 ?_
    refine z_istore_n ho dX9_count_3 (Nat.le_of_ble_eq_true rfl) rfl ?_
    exact key KL [] none rfl
/-- how far a text goes among keys -/
def Far (Ks : List (List Int)) (K : List Int) (i : Nat) : Prop := i ≤ K.length ∧ Pre Ks (K.take i) ∧ (i < K.length → ¬ Pre Ks (K.take (i + 1)))
theorem c_goes (l : Launch) (u : Mem) {au a0 a1 a2 a3 a4 a8 k : Nat} {Ks : List (List Int)} (hX : AX u au a0 a1 a2 a3 a4 a8) (hA : AZ u au a0 a1 a2 a3 a4 a8 Ks) (hKn : Ks ≠ []) (hk : Ky u k) :
    Mt_ l yX9_goes cX9_goes 5 (some .int) 1 0 0 [aR au, aR k] u (qI fun r v => u = v ∧ ∃ i, Far Ks (tx u k) i ∧ ((tx u k ∈ Ks ∧ r = -1 - ((tx u k).length : Int)) ∨ (tx u k ∉ Ks ∧ r = (i : Int)))) := by
  have hX' := hX
  obtain ⟨⟨ka, r0, r1, r2, r3, r4, r8⟩, ⟨k0, l0⟩, ⟨k1, l1⟩, ⟨k2, l2⟩, ⟨k3, l3⟩, ⟨k4, l4⟩, ⟨k8, l8⟩, -⟩ := hX
  obtain ⟨-, n, pf, St, KL, s0, hLS, hs0, hs0m, hs0r, hcov⟩ := hA.resolve_left (fun z => hKn z.1)
  obtain ⟨q1, q2, q3, q4, ⟨q5, q6, q7, q8⟩, q9⟩ := hLS
  have hkn := hk.tx_len
  have hn8 := hk.2.2.2.2.2.1
  obtain ⟨k', hk'⟩ := List.exists_mem_of_ne_nil _ hKn
  refine Mt_of (by decide) (Nat.le_of_ble_eq_true rfl) (fun X ho hX hN hI => ?_)
  subst hX
  show Z X 0 [some (aR au), some (aR k), none, none, none] [] u 0 0
  have key : ∀ (m i s : Nat) (tm : Option AV), m + i = (tx u k).length → s ∈ KL → res Ks (pf s) = res Ks ((tx u k).take i) → Pre Ks ((tx u k).take i) → Z X 7 [some (aR au), some (aR k), some (aI (s : Int)), some (aI (i : Int)), tm] [] u 0 0 := by
    intro m
    induction m with
    | zero =>
      intro i s tm hmi hs hr hp
      have hti : (tx u k).take i = tx u k := List.take_of_length_le (by omega)
      have hsn := (q9.1 s hs).1
      have hmem : tx u k ∈ Ks ↔ pf s ∈ Ks := by
        have := congrFun hr []
        have e : (pf s ++ [] ∈ Ks) = ((tx u k).take i ++ [] ∈ Ks) := this
        rw [List.append_nil, List.append_nil, hti] at e
        rw [e]
      have hfar : Far Ks (tx u k) i := ⟨by omega, hp, fun z => by omega⟩
      refine z_iload_n ho dX9_goes_7 rfl ?_
      refine z_aload_n ho dX9_goes_8 rfl ?_
      refine gX9_49 ho dX9_goes_9 hk.1 ?_
      refine z_icmp_ge (tgt := 50) ho dX9_goes_12 (by decide) (by unfold rng; omega) (by unfold rng; omega) (fun c12 => ?_) (fun c12 => ?_)
      · 
        refine z_aload_n ho dX9_goes_50 rfl ?_
        refine gX9_11 ho dX9_goes_51 ka ?_
        rw [r0]
        refine z_iload_n ho dX9_goes_54 rfl ?_
        refine z_zald ho dX9_goes_55 k0 (by omega) (by omega) ?_
        refine z_if_eq (tgt := 68) ho dX9_goes_56 (by decide) (by rcases q3 s hsn with ⟨z, -⟩ | ⟨z, -⟩ <;> rw [z] <;> unfold rng <;> omega) (fun c56 => ?_) (fun c56 => ?_)
        · 
          refine z_aload_n ho dX9_goes_68 rfl ?_
          refine gX9_49 ho dX9_goes_69 hk.1 ?_
          refine r_I ho dX9_goes_72 (Nat.le_of_ble_eq_true rfl) (Nat.le_of_ble_eq_true rfl) ?_
          refine ⟨rfl, i, hfar, Or.inr ⟨?_, by omega⟩⟩
          rcases q3 s hsn with ⟨z, -⟩ | ⟨-, z⟩
          · rw [z] at c56; exact absurd c56 (by decide)
          · rw [hmem]; exact z
        · 
          refine z_iconst ho dX9_goes_59 ?_
          refine z_aload_n ho dX9_goes_60 rfl ?_
          refine gX9_49 ho dX9_goes_61 hk.1 ?_
          refine z_isub ho dX9_goes_64 ?_
          refine z_goto (tgt := 72) ho dX9_goes_65 (by decide) ?_
          refine r_I ho dX9_goes_72 (Nat.le_of_ble_eq_true rfl) (Nat.le_of_ble_eq_true rfl) ?_
          refine ⟨rfl, i, hfar, Or.inl ⟨?_, by omega⟩⟩
          rcases q3 s hsn with ⟨-, z⟩ | ⟨z, -⟩
          · rw [hmem]; exact z
          · exact absurd z c56
      · omega
    | succ m ih =>
      intro i s tm hmi hs hr hp
      have hsn := (q9.1 s hs).1
      have hki : i < (tx u k).length := by omega
      generalize hcc : (tx u k)[i] = c at *
      have hc : (tx u k)[i]? = some c := by rw [List.getElem?_eq_getElem hki, hcc]
      have hcv : iv_ u (k + 1) (i : Int) = c := by
        rw [← hk.tx_ch (i := (i : Int)) (by omega) (by omega)]
        unfold ch
        simp [hki, hcc]
      have hcr := hk.Tx.2 c (List.mem_of_getElem? hc)
      have etk : (tx u k).take (i + 1) = (tx u k).take i ++ [c] := by rw [List.take_add_one, hc]; rfl
      have e1 : ((i + 1 : Nat) : Int) = (i : Int) + 1 := by omega
      have der : ∀ w, res Ks ((tx u k).take (i + 1)) w ↔ res Ks (pf s) (c :: w) := fun w => by
        rw [hr]
        show (tx u k).take (i + 1) ++ w ∈ Ks ↔ (tx u k).take i ++ (c :: w) ∈ Ks
        rw [etk]
        simp
      refine z_iload_n ho dX9_goes_7 rfl ?_
      refine z_aload_n ho dX9_goes_8 rfl ?_
      refine gX9_49 ho dX9_goes_9 hk.1 ?_
      refine z_icmp_ge (tgt := 50) ho dX9_goes_12 (by decide) (by unfold rng; omega) (by unfold rng; omega) (fun c12 => ?_) (fun c12 => ?_)
      · omega
      · 
        refine z_aload_n ho dX9_goes_15 rfl ?_
        refine z_iload_n ho dX9_goes_16 rfl ?_
        refine z_aload_n ho dX9_goes_17 rfl ?_
        refine gX9_54 ho dX9_goes_18 hk.1 ?_
        rw [hk.2.1]
        refine z_iload_n ho dX9_goes_21 rfl ?_
        refine z_cald ho dX9_goes_22 hk.2.2.1 (by omega) (by rw [hk.2.2.2.1]; omega) ?_
        rw [hcv]
        refine kX9_57 ho hN (c_step _ _ (L := St s) hX' (by omega) (by omega) (by unfold rng; omega) (q1.2.2.1 s hsn) (fun t ht => ⟨by have := (q1.2.2.2.1 s hsn t ht).1; omega, q4 t (q1.2.2.2.1 s hsn t ht).1⟩)) dX9_goes_23 ka (by omega) (Nat.le_of_ble_eq_true rfl) (Nat.le_of_ble_eq_true rfl) (Nat.le_of_ble_eq_true rfl) (fun x23 u23 h23 => ?_)
        obtain ⟨rfl, hr2⟩ := h23
        rcases hr2 with ⟨t, ht1, ht2, ht3⟩ | ⟨ht1, ht2⟩
        · subst ht3
          obtain ⟨g1, g2⟩ := q1.2.2.2.1 s hsn t ht1
          obtain ⟨r, y1, y2, y3⟩ := (q9.1 s hs).2 t ht1
          have hnx : res Ks (pf (t + 1)) = res Ks ((tx u k).take (i + 1)) := funext fun w => propext (by
            rw [der w]
            show pf (t + 1) ++ w ∈ Ks ↔ pf s ++ (c :: w) ∈ Ks
            rw [g2, ht2]
            simp)
          refine z_istore ho dX9_goes_26 (Nat.le_of_ble_eq_true rfl) rfl ?_
          refine z_iload ho dX9_goes_28 rfl ?_
          refine z_iconst ho dX9_goes_30 ?_
          refine z_icmp_ne (tgt := 36) ho dX9_goes_31 (by decide) (by unfold rng; omega) (by unfold rng; omega) (fun c31 => ?_) (fun c31 => ?_)
          · 
            refine z_aload_n ho dX9_goes_36 rfl ?_
            refine gX9_23 ho dX9_goes_37 ka ?_
            rw [r3]
            refine z_iload ho dX9_goes_40 rfl ?_
            refine z_iald ho dX9_goes_42 k3 (by omega) (by omega) ?_
            rw [y2]
            refine z_istore_n ho dX9_goes_43 (Nat.le_of_ble_eq_true rfl) rfl ?_
            refine z_iinc ho dX9_goes_44 rfl rfl ?_
            refine z_goto (tgt := 7) ho dX9_goes_47 (by decide) ?_
            have := ih (i + 1) r (some (aI (t : Int))) (by omega) y1 (by rw [y3, hnx]) (by
              obtain ⟨w, hw⟩ := q2.some g1
              rw [hnx] at hw
              exact ⟨_, hw, List.prefix_append _ _⟩)
            rw [e1] at this
            exact this
          · omega
        · subst ht1
          refine z_istore ho dX9_goes_26 (Nat.le_of_ble_eq_true rfl) rfl ?_
          refine z_iload ho dX9_goes_28 rfl ?_
          refine z_iconst ho dX9_goes_30 ?_
          refine z_icmp_ne (tgt := 36) ho dX9_goes_31 (by decide) (by unfold rng; omega) (by unfold rng; omega) (fun c31 => ?_) (fun c31 => ?_)
          · exact absurd rfl c31
          · 
            refine z_iload_n ho dX9_goes_34 rfl ?_
            refine r_I ho dX9_goes_35 (Nat.le_of_ble_eq_true rfl) (Nat.le_of_ble_eq_true rfl) ?_
            have hnp : ¬ Pre Ks ((tx u k).take (i + 1)) := fun ⟨k2, z1, w, z2⟩ => by
              have : res Ks ((tx u k).take (i + 1)) w := by show _ ∈ Ks; rw [z2]; exact z1
              obtain ⟨t, t1, t2, -⟩ := (q1.res_cons q2 hsn c w).mp ((der w).mp this)
              exact ht2 t t1 t2
            exact ⟨rfl, i, ⟨by omega, hp, fun _ => hnp⟩, Or.inr ⟨fun z => hnp ⟨_, z, List.take_prefix _ _⟩, rfl⟩⟩
  refine z_aload_n ho dX9_goes_0 rfl ?_
  refine gX9_42 ho dX9_goes_1 ka ?_
  rw [hs0]
  refine z_istore_n ho dX9_goes_4 (Nat.le_of_ble_eq_true rfl) rfl ?_
  refine z_iconst ho dX9_goes_5 ?_
  refine z_istore_n ho dX9_goes_6 (Nat.le_of_ble_eq_true rfl) rfl ?_
  exact key (tx u k).length 0 s0 none (by omega) hs0m (by rw [List.take_zero]; exact hs0r) ⟨k', hk', by rw [List.take_zero]; exact List.nil_prefix⟩
/-- a field gets a new array -/
theorem na_facts (u : Mem) (K : Nat) (n : Int) (a : Nat) (i : Int) (N : Nat) (ha : a < sz_ u) (hN : sz_ u = N) : ∃ v, wR_ (al_ u K n) a i N = v ∧ sz_ v = N + 1 ∧ (∀ b, b ≠ a → b ≠ N → Sm u v b) ∧ (kd_ v N = K ∧ ln_ v N = n) ∧ (kd_ v a = kd_ u a ∧ ln_ v a = ln_ u a) ∧ rv_ v a i = N ∧ (∀ j, j ≠ i → rv_ v a j = rv_ u a j) ∧ (∀ j, iv_ v a j = iv_ u a j) ∧ (∀ j, iv_ v N j = 0) ∧ ∀ j, rv_ v N j = 0 := by
  subst hN
  refine ⟨_, rfl, rfl, fun b h1 h2 => (Sm.al h2).tr (Sm.wR h1), ⟨by rw [kd_wR, kd_al, if_pos rfl], by rw [ln_wR, ln_al, if_pos rfl]⟩, ⟨by rw [kd_wR, kd_al, if_neg (by omega)], by rw [ln_wR, ln_al, if_neg (by omega)]⟩, by rw [rv_wR, if_pos ⟨rfl, rfl⟩], fun j hj => by rw [rv_wR, if_neg (fun z => hj z.2), rv_al, if_neg (by omega)], fun j => by rw [iv_wR, iv_al, if_neg (by omega)], fun j => by rw [iv_wR, iv_al, if_pos rfl], fun j => by rw [rv_wR, if_neg (by omega), rv_al, if_pos rfl]⟩
/-- six arrays, one behind the other -/
theorem six_arr (u : Mem) {au : Nat} (ka : kd_ u au = 9) (hz : sz_ u = au + 1) : ∃ u1 u2 u3 u4 u5 u6, wR_ (al_ u 102 513) au 0 (au + 1) = u1 ∧ wR_ (al_ u1 100 513) au 1 (au + 2) = u2 ∧ wR_ (al_ u2 101 513) au 2 (au + 3) = u3 ∧ wR_ (al_ u3 100 513) au 3 (au + 4) = u4 ∧ wR_ (al_ u4 100 513) au 4 (au + 5) = u5 ∧ wR_ (al_ u5 100 513) au 8 (au + 6) = u6 ∧ (sz_ u1 = au + 2 ∧ sz_ u2 = au + 3 ∧ sz_ u3 = au + 4 ∧ sz_ u4 = au + 5 ∧ sz_ u5 = au + 6 ∧ sz_ u6 = au + 7) ∧ (kd_ u1 au = 9 ∧ kd_ u2 au = 9 ∧ kd_ u3 au = 9 ∧ kd_ u4 au = 9 ∧ kd_ u5 au = 9) ∧ AX u6 au (au + 1) (au + 2) (au + 3) (au + 4) (au + 5) (au + 6) ∧ ∀ a, a < au → Sm u u6 a := by
  have ne : ∀ {a b : Nat}, a < b → a ≠ b := fun h => Nat.ne_of_lt h
  have en : ∀ {a b : Nat}, b < a → a ≠ b := fun h => Nat.ne_of_gt h
  obtain ⟨u1, e1, z1, s1, k1, q1, r1, o1, -⟩ := na_facts u 102 513 au 0 (au + 1) (by omega) hz
  obtain ⟨u2, e2, z2, s2, k2, q2, r2, o2, -⟩ := na_facts u1 100 513 au 1 (au + 2) (by omega) z1
  obtain ⟨u3, e3, z3, s3, k3, q3, r3, o3, -⟩ := na_facts u2 101 513 au 2 (au + 3) (by omega) z2
  obtain ⟨u4, e4, z4, s4, k4, q4, r4, o4, -⟩ := na_facts u3 100 513 au 3 (au + 4) (by omega) z3
  obtain ⟨u5, e5, z5, s5, k5, q5, r5, o5, -⟩ := na_facts u4 100 513 au 4 (au + 5) (by omega) z4
  obtain ⟨u6, e6, z6, s6, k6, q6, r6, o6, -⟩ := na_facts u5 100 513 au 8 (au + 6) (by omega) z5
  have c1 : kd_ u1 au = 9 := by rw [q1.1]; exact ka
  have c2 : kd_ u2 au = 9 := by rw [q2.1]; exact c1
  have c3 : kd_ u3 au = 9 := by rw [q3.1]; exact c2
  have c4 : kd_ u4 au = 9 := by rw [q4.1]; exact c3
  have c5 : kd_ u5 au = 9 := by rw [q5.1]; exact c4
  have c6 : kd_ u6 au = 9 := by rw [q6.1]; exact c5
  have far : ∀ a, a < au + 2 → a ≠ au → Sm u2 u6 a := fun a h1 h2 => (((s3 a h2 (ne (Nat.lt_of_lt_of_le h1 (Nat.le_add_right (au + 2) 1)))).tr (s4 a h2 (ne (Nat.lt_of_lt_of_le h1 (Nat.le_add_right (au + 2) 2))))).tr (s5 a h2 (ne (Nat.lt_of_lt_of_le h1 (Nat.le_add_right (au + 2) 3))))).tr (s6 a h2 (ne (Nat.lt_of_lt_of_le h1 (Nat.le_add_right (au + 2) 4))))
  have g : ∀ {x : Nat}, 0 < x → au + x ≠ au := fun h => by omega
  have gg : ∀ {x y : Nat}, x ≠ y → au + x ≠ au + y := fun h => by omega
  have t1 : Sm u1 u6 (au + 1) := (s2 _ (g (by decide)) (gg (by decide))).tr (far _ (Nat.lt_succ_self _) (g (by decide)))
  have t2 : Sm u2 u6 (au + 2) := (((s3 _ (g (by decide)) (gg (by decide))).tr (s4 _ (g (by decide)) (gg (by decide)))).tr (s5 _ (g (by decide)) (gg (by decide)))).tr (s6 _ (g (by decide)) (gg (by decide)))
  have t3 : Sm u3 u6 (au + 3) := ((s4 _ (g (by decide)) (gg (by decide))).tr (s5 _ (g (by decide)) (gg (by decide)))).tr (s6 _ (g (by decide)) (gg (by decide)))
  have t4 : Sm u4 u6 (au + 4) := (s5 _ (g (by decide)) (gg (by decide))).tr (s6 _ (g (by decide)) (gg (by decide)))
  have t5 : Sm u5 u6 (au + 5) := s6 _ (g (by decide)) (gg (by decide))
  refine ⟨u1, u2, u3, u4, u5, u6, e1, e2, e3, e4, e5, e6, ⟨z1, z2, z3, z4, z5, z6⟩, ⟨c1, c2, c3, c4, c5⟩, ⟨⟨c6, ?_, ?_, ?_, ?_, ?_, r6⟩, ⟨by rw [t1.1]; exact k1.1, by rw [t1.2.1]; exact k1.2⟩, ⟨by rw [t2.1]; exact k2.1, by rw [t2.2.1]; exact k2.2⟩, ⟨by rw [t3.1]; exact k3.1, by rw [t3.2.1]; exact k3.2⟩, ⟨by rw [t4.1]; exact k4.1, by rw [t4.2.1]; exact k4.2⟩, ⟨by rw [t5.1]; exact k5.1, by rw [t5.2.1]; exact k5.2⟩, k6, gg (by decide), gg (by decide), gg (by decide), gg (by decide), gg (by decide), gg (by decide)⟩, fun a ha => ?_⟩
  · rw [o6 0 (by decide), o5 0 (by decide), o4 0 (by decide), o3 0 (by decide), o2 0 (by decide)]; exact r1
  · rw [o6 1 (by decide), o5 1 (by decide), o4 1 (by decide), o3 1 (by decide)]; exact r2
  · rw [o6 2 (by decide), o5 2 (by decide), o4 2 (by decide)]; exact r3
  · rw [o6 3 (by decide), o5 3 (by decide)]; exact r4
  · rw [o6 4 (by decide)]; exact r5
  · exact ((s1 a (ne ha) (ne (Nat.lt_of_lt_of_le ha (Nat.le_add_right au 1)))).tr (s2 a (ne ha) (ne (Nat.lt_of_lt_of_le ha (Nat.le_add_right au 2))))).tr (far a (Nat.lt_of_lt_of_le ha (Nat.le_add_right au 2)) (ne ha))
theorem c_Auto_init (l : Launch) (u : Mem) {au : Nat} (ka : kd_ u au = 9) (hz : sz_ u = au + 1) : Mt_ l yX9_init cX9_init 1 none 1 6 3078 [aR au] u (qV fun v => AX v au (au + 1) (au + 2) (au + 3) (au + 4) (au + 5) (au + 6) ∧ sz_ v = au + 7 ∧ ∀ a, a < au → Sm u v a) := by
  refine Mt_of (by decide) (Nat.le_of_ble_eq_true rfl) (fun X ho hX hN hI => ?_)
  subst hX
  have hin : In_ X := hI rfl
  show Z X 0 [some (aR au)] [] u 0 0
  refine z_wf (fun hw => ?_)
  have h0 := (hw.1 au (by omega)).2
  obtain ⟨u1, u2, u3, u4, u5, u6, e1, e2, e3, e4, e5, e6, ⟨z1, z2, z3, z4, z5, z6⟩, ⟨c1, c2, c3, c4, c5⟩, hAX, hsm⟩ := six_arr u ka hz
  have kau : ∀ (w : Mem) (K : Nat) (n : Int) (x : Nat), sz_ w = au + (x + 1) → kd_ w au = 9 → kd_ (al_ w K n) au = 9 := fun w K n x hl hk => by rw [kd_al, if_neg (by omega)]; exact hk
  refine z_aload_n ho dX9_init_0 rfl ?_
  refine kX9_3 ho hN dX9_init_1 h0 (Nat.le_of_ble_eq_true rfl) (Nat.le_of_ble_eq_true rfl) ?_
  refine z_aload_n ho dX9_init_4 rfl ?_
  refine z_sipush ho dX9_init_5 rfl ?_
  refine na_Z ho dX9_init_8 (by omega) (by omega) (Nat.le_of_ble_eq_true rfl) (Nat.le_of_ble_eq_true rfl) ?_
  refine pX9_11 ho hin dX9_init_10 (kau _ _ _ 0 hz ka)  ?_
  rw [hz, e1]
  refine z_aload_n ho dX9_init_13 rfl ?_
  refine z_sipush ho dX9_init_14 rfl ?_
  refine na_I ho dX9_init_17 (by omega) (by omega) (Nat.le_of_ble_eq_true rfl) (Nat.le_of_ble_eq_true rfl) ?_
  refine pX9_15 ho hin dX9_init_19 (kau _ _ _ 1 z1 c1)  ?_
  rw [z1, e2]
  refine z_aload_n ho dX9_init_22 rfl ?_
  refine z_sipush ho dX9_init_23 rfl ?_
  refine na_C ho dX9_init_26 (by omega) (by omega) (Nat.le_of_ble_eq_true rfl) (Nat.le_of_ble_eq_true rfl) ?_
  refine pX9_19 ho hin dX9_init_28 (kau _ _ _ 2 z2 c2)  ?_
  rw [z2, e3]
  refine z_aload_n ho dX9_init_31 rfl ?_
  refine z_sipush ho dX9_init_32 rfl ?_
  refine na_I ho dX9_init_35 (by omega) (by omega) (Nat.le_of_ble_eq_true rfl) (Nat.le_of_ble_eq_true rfl) ?_
  refine pX9_23 ho hin dX9_init_37 (kau _ _ _ 3 z3 c3)  ?_
  rw [z3, e4]
  refine z_aload_n ho dX9_init_40 rfl ?_
  refine z_sipush ho dX9_init_41 rfl ?_
  refine na_I ho dX9_init_44 (by omega) (by omega) (Nat.le_of_ble_eq_true rfl) (Nat.le_of_ble_eq_true rfl) ?_
  refine pX9_26 ho hin dX9_init_46 (kau _ _ _ 4 z4 c4)  ?_
  rw [z4, e5]
  refine z_aload_n ho dX9_init_49 rfl ?_
  refine z_sipush ho dX9_init_50 rfl ?_
  refine na_I ho dX9_init_53 (by omega) (by omega) (Nat.le_of_ble_eq_true rfl) (Nat.le_of_ble_eq_true rfl) ?_
  refine pX9_29 ho hin dX9_init_55 (kau _ _ _ 5 z5 c5)  ?_
  rw [z5, e6]
  refine r_V ho dX9_init_58 (Nat.le_of_ble_eq_true rfl) (Nat.le_of_ble_eq_true rfl) ?_
  exact ⟨hAX, z6, hsm⟩
