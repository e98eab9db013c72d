set_option maxRecDepth 100000
/-! ===== the entries of a view in order ===== -/
def Rl (u : Mem) (S : List Nat) (lo hi : Option (List Int)) (R : List Nat) : Prop := R.Pairwise (fun x y => tx u x < tx u y) ∧ ∀ x, x ∈ R ↔ x ∈ S ∧ inR lo hi (tx u x)
theorem TP.sorted {G : Nat → Prop} {u : Mem} {t : Nat} {S : List Nat} (h : TP G u t S) (hS : S.length ≤ 64) : ∃ es : List Nat, es.Pairwise (fun x y => tx u x < tx u y) ∧ ∀ x, x ∈ S ↔ x ∈ es := by
  rcases h with ⟨-, -, h⟩ | ⟨-, h⟩ | ⟨-, h⟩
  · rcases h with ⟨-, h⟩ | ⟨n, es, fp, h1, h2⟩
    · exact ⟨[], List.Pairwise.nil, fun x => by rw [h]⟩
    · exact ⟨es, FT.sorted _ _ _ _ h1, h2⟩
  · obtain ⟨w3, w4, n, ES, FP, hY, hTN, hp0, h3, h4, hS, hG⟩ := h
    exact ⟨ES, TR.sorted hTN, hS⟩
  · obtain ⟨es0, es, fp, h1, h2, h3, h4⟩ := h.fit hS
    exact ⟨es0 ++ es, h4, h3⟩
theorem TP.rl {G : Nat → Prop} {u : Mem} {t : Nat} {S : List Nat} (h : TP G u t S) (hS : S.length ≤ 64) (lo hi : Option (List Int)) : ∃ R, Rl u S lo hi R := by
  obtain ⟨es, h1, h2⟩ := h.sorted hS
  refine ⟨es.filter (fun x => @decide (inR lo hi (tx u x)) (Classical.propDecidable _)), h1.filter _, fun x => ?_⟩
  rw [List.mem_filter, h2]
  simp
theorem Rl.len {u : Mem} {S R : List Nat} {lo hi : Option (List Int)} (h : Rl u S lo hi R) : R.length ≤ S.length := nd_sub R S (sorted_nd h.1) (fun x hx => ((h.2 x).mp hx).1)
theorem up_first {u : Mem} {S R : List Nat} {lo hi : Option (List Int)} {st : Int} {r : Nat} (h : Rl u S lo hi R) (hq : qUp u S lo hi 0 st r) : r = R.head?.getD 0 := by
  cases R with
  | nil =>
    rcases hq with ⟨q, -⟩ | ⟨q1, q2, -⟩
    · exact q
    · have := (h.2 r).mpr ⟨q1, q2⟩; simp at this
  | cons a R =>
    have ha := (h.2 a).mp List.mem_cons_self
    rcases hq with ⟨-, q⟩ | ⟨q1, q2, -, q4⟩
    · exact absurd (Or.inl rfl) (q a ha.1 ha.2)
    · have hr := (h.2 r).mpr ⟨q1, q2⟩
      rcases List.mem_cons.mp hr with z | z
      · exact z
      · have h1 := (List.pairwise_cons.mp h.1).1 r z
        rcases q4 a ha.1 ha.2 (Or.inl rfl) with y | y
        · exact y.symm
        · exact absurd h1 (li_as y)
theorem up_next {u : Mem} {S A B : List Nat} {lo hi : Option (List Int)} {e r : Nat} (h : Rl u S lo hi (A ++ e :: B)) (he : e ≠ 0) (hq : qUp u S lo hi e 1 r) : r = B.head?.getD 0 := by
  obtain ⟨p1, p2, p3⟩ := List.pairwise_append.mp h.1
  obtain ⟨p4, p5⟩ := List.pairwise_cons.mp p2
  have gt : ∀ x ∈ A ++ e :: B, okA u e 1 x → x ∈ B := fun x hx ho => by
    have hl : tx u e < tx u x := by
      rcases (okA_eq he).mp ho with z | z
      · exact z
      · exact absurd z.1 (by decide)
    rcases List.mem_append.mp hx with z | z
    · exact absurd hl (li_as (p3 x z e (by simp)))
    · rcases List.mem_cons.mp z with z | z
      · rw [z] at hl; exact absurd hl (li_irr _)
      · exact z
  cases B with
  | nil =>
    rcases hq with ⟨q, -⟩ | ⟨q1, q2, q3, -⟩
    · exact q
    · have := gt r ((h.2 r).mpr ⟨q1, q2⟩) q3; simp at this
  | cons b B =>
    have hb := (h.2 b).mp (by simp)
    have ob : okA u e 1 b := okA_gt (p4 b (by simp))
    rcases hq with ⟨-, q⟩ | ⟨q1, q2, q3, q4⟩
    · exact absurd ob (q b hb.1 hb.2)
    · have hr := gt r ((h.2 r).mpr ⟨q1, q2⟩) q3
      rcases List.mem_cons.mp hr with z | z
      · exact z
      · have h1 := (List.pairwise_cons.mp p5).1 r z
        rcases q4 b hb.1 hb.2 ob with y | y
        · exact y.symm
        · exact absurd h1 (li_as y)
theorem dn_first {u : Mem} {S R : List Nat} {lo hi : Option (List Int)} {st : Int} {r : Nat} (h : Rl u S lo hi R) (hq : qDn u S lo hi 0 st r) : r = R.getLast?.getD 0 := by
  rcases List.eq_nil_or_concat R with rfl | ⟨R', a, hR⟩
  · rcases hq with ⟨q, -⟩ | ⟨q1, q2, -⟩
    · exact q
    · have := (h.2 r).mpr ⟨q1, q2⟩; simp at this
  · rw [List.concat_eq_append] at hR
    subst hR
    have ha := (h.2 a).mp (by simp)
    rw [List.getLast?_concat]
    show r = a
    rcases hq with ⟨-, q⟩ | ⟨q1, q2, -, q4⟩
    · exact absurd (Or.inl rfl) (q a ha.1 ha.2)
    · have hr := (h.2 r).mpr ⟨q1, q2⟩
      rcases List.mem_append.mp hr with z | z
      · have h1 := (List.pairwise_append.mp h.1).2.2 r z a (by simp)
        rcases q4 a ha.1 ha.2 (Or.inl rfl) with y | y
        · exact y.symm
        · exact absurd h1 (li_as y)
      · exact List.mem_singleton.mp z
theorem dn_next {u : Mem} {S A B : List Nat} {lo hi : Option (List Int)} {e r : Nat} (h : Rl u S lo hi (A ++ e :: B)) (he : e ≠ 0) (hq : qDn u S lo hi e 1 r) : r = A.getLast?.getD 0 := by
  obtain ⟨p1, p2, p3⟩ := List.pairwise_append.mp h.1
  obtain ⟨p4, p5⟩ := List.pairwise_cons.mp p2
  have gt : ∀ x ∈ A ++ e :: B, okB u e 1 x → x ∈ A := fun x hx ho => by
    have hl : tx u x < tx u e := by
      rcases (okB_eq he).mp ho with z | z
      · exact z
      · exact absurd z.1 (by decide)
    rcases List.mem_append.mp hx with z | z
    · exact z
    · rcases List.mem_cons.mp z with z | z
      · rw [z] at hl; exact absurd hl (li_irr _)
      · exact absurd hl (li_as (p4 x z))
  rcases List.eq_nil_or_concat A with rfl | ⟨A', b, hA⟩
  · rcases hq with ⟨q, -⟩ | ⟨q1, q2, q3, -⟩
    · exact q
    · have := gt r ((h.2 r).mpr ⟨q1, q2⟩) q3; simp at this
  · rw [List.concat_eq_append] at hA
    subst hA
    have hb := (h.2 b).mp (by simp)
    have ob : okB u e 1 b := okB_lt (p3 b (by simp) e (by simp))
    rw [List.getLast?_concat]
    show r = b
    rcases hq with ⟨-, q⟩ | ⟨q1, q2, q3, q4⟩
    · exact absurd ob (q b hb.1 hb.2)
    · have hr := gt r ((h.2 r).mpr ⟨q1, q2⟩) q3
      rcases List.mem_append.mp hr with z | z
      · have h1 := (List.pairwise_append.mp p1).2.2 r z b (by simp)
        rcases q4 b hb.1 hb.2 ob with y | y
        · exact y.symm
        · exact absurd h1 (li_as y)
      · exact List.mem_singleton.mp z
/-! ===== View.size, iterate, isCurrent, <init>, copy ===== -/
theorem c_size (l : Launch) (u : Mem) {G : Nat → Prop} {v t : Nat} {S : List Nat} {lo hi : Option (List Int)} (hV : Vw u v t lo hi) (hT : TP G u t S) (hc : iv_ u t 0 = S.length) (hS : S.length ≤ 64) : Mt_ l yX11_size cX11_size 3 (some .int) 1102 0 0 [aR v] u (qI fun r u' => u = u' ∧ ∃ R, Rl u S lo hi R ∧ r = R.length) := by
  have kv := hV.1
  obtain ⟨R, hR⟩ := hT.rl hS lo hi
  refine Mt_of (by decide) (Nat.le_of_ble_eq_true rfl) (fun X ho hX hN hI => ?_)
  subst hX
  show Z X 0 [some (aR v), none, none] [] u 0 0
  refine z_wf (fun hw => ?_)
  have key : ∀ (B A : List Nat), R = A ++ B → Z X 9 [some (aR v), some (aI (A.length : Int)), some (aR (B.head?.getD 0))] [] u 0 0 := by
    intro B
    induction B with
    | nil =>
      intro A hA
      rw [List.append_nil] at hA
      show Z X 9 [some (aR v), some (aI (A.length : Int)), some (aR 0)] [] u 0 0
      refine z_aload_n ho dX11_size_9 rfl ?_
      refine z_ifnull (tgt := 26) ho dX11_size_10 (by decide) (fun c10 => ?_) (fun c10 => ?_)
      · 
        refine z_iload_n ho dX11_size_26 rfl ?_
        refine r_I ho dX11_size_27 (Nat.le_of_ble_eq_true rfl) (Nat.le_of_ble_eq_true rfl) ?_
        exact ⟨rfl, R, hR, by rw [hA]⟩
      · exact absurd rfl c10
    | cons e B ih =>
      intro A hA
      have he := (hR.2 e).mp (by rw [hA]; simp)
      have en := hT.en e he.1
      have e0 := en.ne0 hw
      show Z X 9 [some (aR v), some (aI (A.length : Int)), some (aR e)] [] u 0 0
      refine z_aload_n ho dX11_size_9 rfl ?_
      refine z_ifnull (tgt := 26) ho dX11_size_10 (by decide) (fun c10 => ?_) (fun c10 => ?_)
      · exact absurd c10 e0
      · 
        refine z_iinc ho dX11_size_13 rfl rfl ?_
        refine z_aload_n ho dX11_size_16 rfl ?_
        refine z_aload_n ho dX11_size_17 rfl ?_
        refine z_iconst ho dX11_size_18 ?_
        refine kX11_71 ho hN (c_up _ _ hV hT hc hS (Or.inr en.1) (Or.inr rfl)) dX11_size_19 kv (by omega) (Nat.le_of_ble_eq_true rfl) (Nat.le_of_ble_eq_true rfl) (Nat.le_of_ble_eq_true rfl) (fun x19 u19 h19 => ?_)
        obtain ⟨rfl, hq⟩ := h19
        refine z_astore_n ho dX11_size_22 (Nat.le_of_ble_eq_true rfl) rfl ?_
        refine z_goto (tgt := 9) ho dX11_size_23 (by decide) ?_
        rw [up_next (by rw [← hA]; exact hR) e0 hq]
        have := ih (A ++ [e]) (by rw [hA]; simp)
        rw [List.length_append] at this
        exact this
  refine z_iconst ho dX11_size_0 ?_
  refine z_istore_n ho dX11_size_1 (Nat.le_of_ble_eq_true rfl) rfl ?_
  refine z_aload_n ho dX11_size_2 rfl ?_
  refine z_null ho dX11_size_3 ?_
  refine z_iconst ho dX11_size_4 ?_
  refine kX11_71 ho hN (c_up _ _ hV hT hc hS (Or.inl rfl) (Or.inl rfl)) dX11_size_5 kv (by omega) (Nat.le_of_ble_eq_true rfl) (Nat.le_of_ble_eq_true rfl) (Nat.le_of_ble_eq_true rfl) (fun x5 u5 h5 => ?_)
  obtain ⟨rfl, hq⟩ := h5
  refine z_astore_n ho dX11_size_8 (Nat.le_of_ble_eq_true rfl) rfl ?_
  rw [up_first hR hq]
  exact key R [] rfl
theorem c_iterate (l : Launch) (u : Mem) {v : Nat} (kv : kd_ u v = 11) (kt : isT_ u (rv_ u v 0)) : Mt_ l yX11_iterate cX11_iterate 1 none 0 0 0 [aR v] u (qV fun u' => u' = wI_ (wR_ (wI_ (wI_ u v 4 1) v 5 (iv_ u (rv_ u v 0) 1)) v 6 0) v 7 0) := by
  refine Mt_of (by decide) (Nat.le_of_ble_eq_true rfl) (fun X ho hX hN hI => ?_)
  subst hX
  show Z X 0 [some (aR v)] [] u 0 0
  refine z_wf (fun hw => ?_)
  have ne : v ≠ rv_ u v 0 := fun z => by rw [← z] at kt; unfold isT_ at kt; omega
  have e : iv_ (wI_ u v 4 1) (rv_ u v 0) 1 = iv_ u (rv_ u v 0) 1 := by rw [iv_wI, if_neg (fun z => ne z.1.symm)]
  refine z_aload_n ho dX11_iterate_0 rfl ?_
  refine z_iconst ho dX11_iterate_1 ?_
  refine pX11_74 ho dX11_iterate_2 kv (Or.inr rfl) ?_
  refine z_aload_n ho dX11_iterate_5 rfl ?_
  refine z_aload_n ho dX11_iterate_6 rfl ?_
  refine gX11_7 ho dX11_iterate_7 kv ?_
  refine gX11_77 ho dX11_iterate_10 (show isT_ (wI_ u v 4 1) (rv_ u v 0) from kt) ?_
  rw [rv_wI, e]
  refine pX11_80 ho dX11_iterate_13 kv  ?_
  refine z_aload_n ho dX11_iterate_16 rfl ?_
  refine z_null ho dX11_iterate_17 ?_
  refine pX11_81 ho dX11_iterate_18 kv  ?_
  refine z_aload_n ho dX11_iterate_21 rfl ?_
  refine z_iconst ho dX11_iterate_22 ?_
  refine pX11_85 ho dX11_iterate_23 kv (Or.inl rfl) ?_
  refine r_V ho dX11_iterate_26 (Nat.le_of_ble_eq_true rfl) (Nat.le_of_ble_eq_true rfl) ?_
  rfl
theorem c_isCurrent (l : Launch) (u : Mem) {v : Nat} (kv : kd_ u v = 11) (kt : isT_ u (rv_ u v 0)) (hb : iv_ u v 4 = 0 ∨ iv_ u v 4 = 1) (r1 : rng (iv_ u v 5)) (r2 : rng (iv_ u (rv_ u v 0) 1)) : Mt_ l yX11_isCurrent cX11_isCurrent 1 (some .boolean) 0 0 0 [aR v] u (qI fun r u' => u = u' ∧ qB r (iv_ u v 4 = 1 ∧ iv_ u v 5 = iv_ u (rv_ u v 0) 1)) := by
  refine Mt_of (by decide) (Nat.le_of_ble_eq_true rfl) (fun X ho hX hN hI => ?_)
  subst hX
  show Z X 0 [some (aR v)] [] u 0 0
  refine z_aload_n ho dX11_isCurrent_0 rfl ?_
  refine gX11_74 ho dX11_isCurrent_1 kv ?_
  refine z_if_eq (tgt := 25) ho dX11_isCurrent_4 (by decide) (by unfold rng; omega) (fun c4 => ?_) (fun c4 => ?_)
  · 
    refine z_iconst ho dX11_isCurrent_25 ?_
    refine r_Z ho dX11_isCurrent_26 (Nat.le_of_ble_eq_true rfl) (Nat.le_of_ble_eq_true rfl) ?_ ?_
    · exact Or.inl rfl
    · exact ⟨rfl, Or.inr ⟨rfl, fun z => by omega⟩⟩
  · 
    refine z_aload_n ho dX11_isCurrent_7 rfl ?_
    refine gX11_80 ho dX11_isCurrent_8 kv ?_
    refine z_aload_n ho dX11_isCurrent_11 rfl ?_
    refine gX11_7 ho dX11_isCurrent_12 kv ?_
    refine gX11_77 ho dX11_isCurrent_15 kt ?_
    refine z_icmp_ne (tgt := 25) ho dX11_isCurrent_18 (by decide) r1 r2 (fun c18 => ?_) (fun c18 => ?_)
    · 
      refine z_iconst ho dX11_isCurrent_25 ?_
      refine r_Z ho dX11_isCurrent_26 (Nat.le_of_ble_eq_true rfl) (Nat.le_of_ble_eq_true rfl) ?_ ?_
      · exact Or.inl rfl
      · exact ⟨rfl, Or.inr ⟨rfl, fun z => c18 z.2⟩⟩
    · 
      refine z_iconst ho dX11_isCurrent_21 ?_
      refine z_goto (tgt := 26) ho dX11_isCurrent_22 (by decide) ?_
      refine r_Z ho dX11_isCurrent_26 (Nat.le_of_ble_eq_true rfl) (Nat.le_of_ble_eq_true rfl) ?_ ?_
      · exact Or.inr rfl
      · exact ⟨rfl, Or.inl ⟨rfl, by omega, c18⟩⟩
theorem c_View_init (l : Launch) (u : Mem) {v t : Nat} (kv : kd_ u v = 11) : Mt_ l yX11_init cX11_init 2 none 1 0 0 [aR v, aR t] u (qV fun u' => u' = wR_ u v 0 t) := by
  refine Mt_of (by decide) (Nat.le_of_ble_eq_true rfl) (fun X ho hX hN hI => ?_)
  subst hX
  have hin : In_ X := hI rfl
  show Z X 0 [some (aR v), some (aR t)] [] u 0 0
  refine z_wf (fun hw => ?_)
  refine z_aload_n ho dX11_init_0 rfl ?_
  refine kX11_1 ho hN dX11_init_1 (hw.1 v (by omega)).2 (Nat.le_of_ble_eq_true rfl) (Nat.le_of_ble_eq_true rfl) ?_
  refine z_aload_n ho dX11_init_4 rfl ?_
  refine z_aload_n ho dX11_init_5 rfl ?_
  refine pX11_7 ho hin dX11_init_6 kv  ?_
  refine r_V ho dX11_init_9 (Nat.le_of_ble_eq_true rfl) (Nat.le_of_ble_eq_true rfl) ?_
  rfl
/-- a copy of a view at sz_ u -/
def vcp (u : Mem) (v : Nat) : Mem := wI_ (wR_ (wR_ (wR_ (al_ u 11 0) (sz_ u) 0 (rv_ u v 0)) (sz_ u) 1 (rv_ u v 1)) (sz_ u) 2 (rv_ u v 2)) (sz_ u) 3 (iv_ u v 3)
theorem c_View_copy (l : Launch) (u : Mem) {v : Nat} (kv : kd_ u v = 11) (htu : iv_ u v 3 = 0 ∨ iv_ u v 3 = 1) : Mt_ l yX11_copy cX11_copy 2 (some (.object "KeyHall$View")) 2 1 8 [aR v] u (qR fun r u' => r = sz_ u ∧ u' = vcp u v) := by
  refine Mt_of (by decide) (Nat.le_of_ble_eq_true rfl) (fun X ho hX hN hI => ?_)
  subst hX
  show Z X 0 [some (aR v), none] [] u 0 0
  refine z_wf (fun hw => ?_)
  have hv := hw.1 v (by omega)
  have hz := hw.2.2
  have e0 : rv_ (al_ u 11 0) v 0 = rv_ u v 0 := by rw [rv_al, if_neg (by omega)]
  have k1 : kd_ (al_ u 11 0) (sz_ u) = 11 := by rw [kd_al, if_pos rfl]
  have k2 : kd_ (al_ u 11 0) v = 11 := by rw [kd_al, if_neg (by omega)]; exact kv
  have q0 : v ≠ sz_ u := by omega
  refine nX11_8 ho dX11_copy_0 (Nat.le_of_ble_eq_true rfl) (Nat.le_of_ble_eq_true rfl) ?_
  refine z_dup ho dX11_copy_3 rfl ?_
  refine z_aload_n ho dX11_copy_4 rfl ?_
  refine gX11_7 ho dX11_copy_5 k2 ?_
  rw [e0]
  refine kX11_13 ho hN (c_View_init _ _ k1) dX11_copy_8 (by omega) (Nat.le_of_ble_eq_true rfl) (Nat.le_of_ble_eq_true rfl) (Nat.le_of_ble_eq_true rfl) (Nat.le_of_ble_eq_true rfl) (fun u8 h8 => ?_)
  obtain rfl := h8
  refine z_astore_n ho dX11_copy_11 (Nat.le_of_ble_eq_true rfl) rfl ?_
  refine z_aload_n ho dX11_copy_12 rfl ?_
  refine z_aload_n ho dX11_copy_13 rfl ?_
  refine gX11_16 ho dX11_copy_14 k2 ?_
  refine pX11_16 ho dX11_copy_17 k1  ?_
  refine z_aload_n ho dX11_copy_20 rfl ?_
  refine z_aload_n ho dX11_copy_21 rfl ?_
  refine gX11_20 ho dX11_copy_22 k2 ?_
  refine pX11_20 ho dX11_copy_25 k1  ?_
  refine z_aload_n ho dX11_copy_28 rfl ?_
  refine z_aload_n ho dX11_copy_29 rfl ?_
  refine gX11_23 ho dX11_copy_30 k2 ?_
  have a1 : rv_ (wR_ (al_ u 11 0) (sz_ u) 0 (rv_ u v 0)) v 1 = rv_ u v 1 := by rw [rv_wR, if_neg (fun z => q0 z.1), rv_al, if_neg q0]
  have a2 : ∀ x, rv_ (wR_ (wR_ (al_ u 11 0) (sz_ u) 0 (rv_ u v 0)) (sz_ u) 1 x) v 2 = rv_ u v 2 := fun x => by rw [rv_wR, if_neg (fun z => q0 z.1), rv_wR, if_neg (fun z => q0 z.1), rv_al, if_neg q0]
  have a3 : ∀ x y, iv_ (wR_ (wR_ (wR_ (al_ u 11 0) (sz_ u) 0 (rv_ u v 0)) (sz_ u) 1 x) (sz_ u) 2 y) v 3 = iv_ u v 3 := fun x y => by rw [iv_wR, iv_wR, iv_wR, iv_al, if_neg q0]
  rw [a1, a2, a3]
  refine pX11_23 ho dX11_copy_33 k1 htu ?_
  refine z_aload_n ho dX11_copy_36 rfl ?_
  refine r_R ho dX11_copy_37 (Nat.le_of_ble_eq_true rfl) (Nat.le_of_ble_eq_true rfl) ?_
  exact ⟨rfl, rfl⟩
/-! ===== View.from, to, begin ===== -/
theorem c_from (l : Launch) (u : Mem) {v k : Nat} {lo : Option (List Int)} (kv : kd_ u v = 11) (hlo : KyO u (rv_ u v 1) lo) (hk : Ky u k) : Mt_ l yX11_from cX11_from 2 none 2 0 0 [aR v, aR k] u (qV fun u' => (u' = u ∧ ∃ a, lo = some a ∧ ¬ a < tx u k) ∨ (u' = wR_ u v 1 k ∧ ∀ a, lo = some a → a < tx u k)) := by
  refine Mt_of (by decide) (Nat.le_of_ble_eq_true rfl) (fun X ho hX hN hI => ?_)
  subst hX
  show Z X 0 [some (aR v), some (aR k)] [] u 0 0
  refine z_wf (fun hw => ?_)
  have cl := hlo.c hw
  have yes : (∀ a, lo = some a → a < tx u k) → Z X 18 [some (aR v), some (aR k)] [] u 0 0 := fun h => by
    refine z_aload_n ho dX11_from_18 rfl ?_
    refine z_aload_n ho dX11_from_19 rfl ?_
    refine pX11_16 ho dX11_from_20 kv  ?_
    refine r_V ho dX11_from_23 (Nat.le_of_ble_eq_true rfl) (Nat.le_of_ble_eq_true rfl) ?_
    exact Or.inr ⟨rfl, h⟩
  refine z_aload_n ho dX11_from_0 rfl ?_
  refine gX11_16 ho dX11_from_1 kv ?_
  refine z_ifnull (tgt := 18) ho dX11_from_4 (by decide) (fun c4 => ?_) (fun c4 => ?_)
  · exact yes (fun a ha => by rw [cl.1 c4] at ha; cases ha)
  · obtain ⟨k1, e1⟩ := cl.2 c4
    refine z_aload_n ho dX11_from_7 rfl ?_
    refine z_aload_n ho dX11_from_8 rfl ?_
    refine gX11_16 ho dX11_from_9 kv ?_
    refine kX11_27 ho hN (c_compareTo _ _ hk k1) dX11_from_12 hk.1 (Nat.le_of_ble_eq_true rfl) (Nat.le_of_ble_eq_true rfl) (Nat.le_of_ble_eq_true rfl) (Nat.le_of_ble_eq_true rfl) (fun x12 u12 h12 => ?_)
    obtain ⟨rfl, rfl⟩ := h12
    refine z_if_le (tgt := 23) ho dX11_from_15 (by decide) (cmp_rng _ _) (fun c15 => ?_) (fun c15 => ?_)
    · 
      refine r_V ho dX11_from_23 (Nat.le_of_ble_eq_true rfl) (Nat.le_of_ble_eq_true rfl) ?_
      exact Or.inl ⟨rfl, _, e1, fun z => by have := cmp_pos.mpr z; omega⟩
    · exact yes (fun a ha => by rw [e1] at ha; cases ha; exact cmp_pos.mp (by omega))
theorem c_to (l : Launch) (u : Mem) {v k : Nat} {hi : Option (List Int)} (kv : kd_ u v = 11) (hhi : KyO u (rv_ u v 2) hi) (hk : Ky u k) : Mt_ l yX11_to cX11_to 2 none 2 0 0 [aR v, aR k] u (qV fun u' => (u' = u ∧ ∃ a, hi = some a ∧ ¬ tx u k < a) ∨ (u' = wR_ u v 2 k ∧ ∀ a, hi = some a → tx u k < a)) := by
  refine Mt_of (by decide) (Nat.le_of_ble_eq_true rfl) (fun X ho hX hN hI => ?_)
  subst hX
  show Z X 0 [some (aR v), some (aR k)] [] u 0 0
  refine z_wf (fun hw => ?_)
  have cl := hhi.c hw
  have yes : (∀ a, hi = some a → tx u k < a) → Z X 18 [some (aR v), some (aR k)] [] u 0 0 := fun h => by
    refine z_aload_n ho dX11_to_18 rfl ?_
    refine z_aload_n ho dX11_to_19 rfl ?_
    refine pX11_20 ho dX11_to_20 kv  ?_
    refine r_V ho dX11_to_23 (Nat.le_of_ble_eq_true rfl) (Nat.le_of_ble_eq_true rfl) ?_
    exact Or.inr ⟨rfl, h⟩
  refine z_aload_n ho dX11_to_0 rfl ?_
  refine gX11_20 ho dX11_to_1 kv ?_
  refine z_ifnull (tgt := 18) ho dX11_to_4 (by decide) (fun c4 => ?_) (fun c4 => ?_)
  · exact yes (fun a ha => by rw [cl.1 c4] at ha; cases ha)
  · obtain ⟨k1, e1⟩ := cl.2 c4
    refine z_aload_n ho dX11_to_7 rfl ?_
    refine z_aload_n ho dX11_to_8 rfl ?_
    refine gX11_20 ho dX11_to_9 kv ?_
    refine kX11_27 ho hN (c_compareTo _ _ hk k1) dX11_to_12 hk.1 (Nat.le_of_ble_eq_true rfl) (Nat.le_of_ble_eq_true rfl) (Nat.le_of_ble_eq_true rfl) (Nat.le_of_ble_eq_true rfl) (fun x12 u12 h12 => ?_)
    obtain ⟨rfl, rfl⟩ := h12
    refine z_if_ge (tgt := 23) ho dX11_to_15 (by decide) (cmp_rng _ _) (fun c15 => ?_) (fun c15 => ?_)
    · 
      refine r_V ho dX11_to_23 (Nat.le_of_ble_eq_true rfl) (Nat.le_of_ble_eq_true rfl) ?_
      exact Or.inl ⟨rfl, _, e1, fun z => by have := cmp_neg.mpr z; omega⟩
    · exact yes (fun a ha => by rw [e1] at ha; cases ha; exact cmp_neg.mp (by omega))
/-- a view's range is cut: what is known of the view then -/
def Nv (u u' : Mem) (v t k : Nat) (lo hi : Option (List Int)) (P : List Int → Prop) : Prop := (∃ lo' hi', Vw u' v t lo' hi' ∧ ∀ s, Tx s → (inR lo' hi' s ↔ inR lo hi s ∧ P s)) ∧ (∀ a, a < sz_ u → a ≠ v → Sm u u' a) ∧ sz_ u ≤ sz_ u' ∧ ln_ u' v = ln_ u v ∧ (∀ i, iv_ u' v i = iv_ u v i) ∧ (∀ i, i ≠ 1 → i ≠ 2 → rv_ u' v i = rv_ u v i) ∧ ∀ i, (i = 1 ∨ i = 2) → rv_ u' v i = rv_ u v i ∨ rv_ u' v i = k ∨ (sz_ u ≤ rv_ u' v i ∧ kd_ u' (rv_ u' v i) = 2)
theorem KyO.wR {u : Mem} {v k x : Nat} {i : Int} {o : Option (List Int)} (kv : kd_ u v = 11) (h : KyO u k o) : KyO (wR_ u v i x) k o := by
  rcases h with h | ⟨h, e⟩
  · exact Or.inl h
  · have hk := h.kd
    have := h.same (u' := wR_ u v i x) (Sm.wR (fun z => by rw [z] at hk; omega)) (Sm.wR (fun z => by have := h.2.2.1; rw [z] at this; omega))
    exact Or.inr ⟨this.1, by rw [this.2]; exact e⟩
theorem Nv.from {u u' : Mem} {v t k : Nat} {lo hi : Option (List Int)} (hV : Vw u v t lo hi) (hk : Ky u k) (h : (u' = u ∧ ∃ a, lo = some a ∧ ¬ a < tx u k) ∨ (u' = wR_ u v 1 k ∧ ∀ a, lo = some a → a < tx u k)) : Nv u u' v t k lo hi (fun s => ¬ s < tx u k) := by
  obtain ⟨kv, ht, hlo, hhi⟩ := hV
  rcases h with ⟨rfl, a, e, hn⟩ | ⟨rfl, hn⟩
  · refine ⟨⟨lo, hi, ⟨kv, ht, hlo, hhi⟩, fun s _ => ⟨fun h => ⟨h, ?_⟩, fun h => h.1⟩⟩, fun a _ _ => Sm.rf _ a, Nat.le_refl _, rfl, fun _ => rfl, fun _ _ _ => rfl, fun i _ => Or.inl rfl⟩
    exact li_nlt hn (h.1 a e)
  · have h1 : rv_ (wR_ u v 1 k) v 1 = k := by rw [rv_wR, if_pos ⟨rfl, rfl⟩]
    have hko : KyO (wR_ u v 1 k) k (some (tx u k)) := KyO.wR kv (Or.inr ⟨hk, rfl⟩)
    refine ⟨⟨some (tx u k), hi, ⟨kv, by rw [rv_wR, if_neg (by omega)]; exact ht, by rw [h1]; exact hko, by rw [rv_wR, if_neg (by omega)]; exact KyO.wR kv hhi⟩, fun s _ => ⟨fun h => ⟨⟨fun a ha => ?_, h.2⟩, h.1 _ rfl⟩, fun h => ⟨fun a ha => by cases ha; exact h.2, h.1.2⟩⟩⟩, fun a _ ha => Sm.wR ha, Nat.le_refl _, rfl, fun _ => rfl, fun i hi _ => by rw [rv_wR, if_neg (fun z => hi z.2)], fun i hi => ?_⟩
    · exact fun z => h.1 _ rfl (li_tr z (hn a ha))
    · by_cases z : i = 1
      · right; left; rw [z]; exact h1
      · left; rw [rv_wR, if_neg (fun y => z y.2)]
theorem Nv.to {u u' : Mem} {v t k : Nat} {lo hi : Option (List Int)} (hV : Vw u v t lo hi) (hk : Ky u k) (h : (u' = u ∧ ∃ a, hi = some a ∧ ¬ tx u k < a) ∨ (u' = wR_ u v 2 k ∧ ∀ a, hi = some a → tx u k < a)) : Nv u u' v t k lo hi (fun s => s < tx u k) := by
  obtain ⟨kv, ht, hlo, hhi⟩ := hV
  rcases h with ⟨rfl, a, e, hn⟩ | ⟨rfl, hn⟩
  · refine ⟨⟨lo, hi, ⟨kv, ht, hlo, hhi⟩, fun s _ => ⟨fun h => ⟨h, ?_⟩, fun h => h.1⟩⟩, fun a _ _ => Sm.rf _ a, Nat.le_refl _, rfl, fun _ => rfl, fun _ _ _ => rfl, fun i _ => Or.inl rfl⟩
    exact li_nl2 (h.2 a e) hn
  · have h1 : rv_ (wR_ u v 2 k) v 2 = k := by rw [rv_wR, if_pos ⟨rfl, rfl⟩]
    have hko : KyO (wR_ u v 2 k) k (some (tx u k)) := KyO.wR kv (Or.inr ⟨hk, rfl⟩)
    refine ⟨⟨lo, some (tx u k), ⟨kv, by rw [rv_wR, if_neg (by omega)]; exact ht, by rw [rv_wR, if_neg (by omega)]; exact KyO.wR kv hlo, by rw [h1]; exact hko⟩, fun s _ => ⟨fun h => ⟨⟨h.1, fun a ha => ?_⟩, h.2 _ rfl⟩, fun h => ⟨h.1.1, fun a ha => by cases ha; exact h.2⟩⟩⟩, fun a _ ha => Sm.wR ha, Nat.le_refl _, rfl, fun _ => rfl, fun i _ hi => by rw [rv_wR, if_neg (fun z => hi z.2)], fun i hi => ?_⟩
    · exact li_tr (h.2 _ rfl) (hn a ha)
    · by_cases z : i = 2
      · right; left; rw [z]; exact h1
      · left; rw [rv_wR, if_neg (fun y => z y.2)]
/-- a new key with a key's text -/
theorem nkc {u : Mem} {k : Nat} (hw : Wf u) (hk : Ky u k) : Ky (cpy (nky u 2) (sz_ u) k) (sz_ u) ∧ tx (cpy (nky u 2) (sz_ u) k) (sz_ u) = tx u k ∧ kd_ (cpy (nky u 2) (sz_ u) k) (sz_ u) = 2 ∧ sz_ (cpy (nky u 2) (sz_ u) k) = sz_ u + 2 ∧ (∀ b, b < sz_ u → Sm u (cpy (nky u 2) (sz_ u) k) b) ∧ Kc (nky u 2) (sz_ u) ∧ Ky (nky u 2) k ∧ sz_ u ≠ k := by
  obtain ⟨n1, n2, n3, n4, n5, n6⟩ := nky_facts (u := u) (K := 2) (Or.inl rfl)
  have hl := hk.lt hw
  have hk1 := hk.same (n5.2 k hl.1 (fun z => z)) (n5.2 (k + 1) hl.2.1 (fun z => z))
  have hne : sz_ u ≠ k := by omega
  obtain ⟨f1, f2, f3, f4⟩ := cpy_facts n1 hk1.1 hne (fun i _ _ => by rw [n4]; decide)
  exact ⟨f1, by rw [f2]; exact hk1.2, n6, n2, fun b hb => (n5.2 b hb (fun z => z)).tr (f3 b (by omega) (by omega)), n1, hk1.1, hne⟩
/-- the last character of a key's text -/
theorem tx_last {w : Mem} {a : Nat} {L : List Int} {c : Int} (hk : Ky w a) (h : tx w a = L ++ [c]) : iv_ w a 1 = L.length + 1 ∧ iv_ w (a + 1) (L.length : Int) = c ∧ 0 ≤ c ∧ c < 65536 := by
  have h1 := hk.tx_len
  rw [h, List.length_append] at h1
  have h2 := hk.tx_ch (i := (L.length : Int)) (by omega) (by simp at h1; omega)
  rw [h] at h2
  unfold ch at h2
  simp at h2
  have h3 := hk.Tx.2 c (by rw [h]; simp)
  exact ⟨by simp at h1; omega, h2.symm, h3⟩
theorem tx_pop {w : Mem} {a : Nat} {L : List Int} {c : Int} (hk : Ky w a) (h : tx w a = L ++ [c]) : Ky (wI_ w a 1 (L.length : Int)) a ∧ tx (wI_ w a 1 (L.length : Int)) a = L := by
  obtain ⟨l1, l2, -⟩ := tx_last hk h
  obtain ⟨k1, k2, k3, k4, k5, k6, k7⟩ := hk
  have hv : ∀ i, iv_ (wI_ w a 1 (L.length : Int)) (a + 1) i = iv_ w (a + 1) i := fun i => by rw [iv_wI, if_neg (by omega)]
  have hn : iv_ (wI_ w a 1 (L.length : Int)) a 1 = L.length := by rw [iv_wI, if_pos ⟨rfl, rfl⟩]
  refine ⟨⟨k1, k2, k3, k4, by rw [hn]; omega, by rw [hn]; omega, fun i h0 h1 => by rw [hv]; exact k7 i h0 h1⟩, ?_⟩
  unfold tx at h ⊢
  rw [hn, Int.toNat_natCast, seg_ext (g := iv_ w (a + 1)) (fun j _ _ => hv j)]
  have e : (iv_ w a 1).toNat = L.length + 1 := by omega
  rw [e] at h
  have := congrArg (List.take L.length) h
  rw [List.take_left'] at this
  · rw [← this]
    unfold seg
    rw [← List.map_take, List.take_range]
    simp
  · rfl
theorem tx_set {w : Mem} {a : Nat} {L : List Int} {c d : Int} (hk : Ky w a) (h : tx w a = L ++ [c]) (h0 : 0 ≤ d) (h1 : d < 65536) : Ky (wI_ w (a + 1) (L.length : Int) d) a ∧ tx (wI_ w (a + 1) (L.length : Int) d) a = L ++ [d] := by
  obtain ⟨l1, l2, -⟩ := tx_last hk h
  obtain ⟨k1, k2, k3, k4, k5, k6, k7⟩ := hk
  have hn : iv_ (wI_ w (a + 1) (L.length : Int) d) a 1 = iv_ w a 1 := by rw [iv_wI, if_neg (by omega)]
  refine ⟨⟨k1, k2, k3, k4, by rw [hn]; exact k5, by rw [hn]; exact k6, fun i h0 h1 => by rw [iv_wI]; split; (· omega); exact k7 i h0 h1⟩, ?_⟩
  unfold tx at h ⊢
  have e : (iv_ w a 1).toNat = L.length + 1 := by omega
  rw [hn, e]
  rw [e] at h
  apply List.ext_getElem?
  intro j
  have hj := congrArg (fun l => l[j]?) h
  by_cases q : j < L.length + 1
  · rw [seg_get q]
    simp only [seg_get q] at hj
    rw [iv_wI]
    by_cases z : j < L.length
    · rw [if_neg (by omega), hj, List.getElem?_append_left z, List.getElem?_append_left z]
    · have : j = L.length := by omega
      subst this
      rw [if_pos ⟨rfl, rfl⟩]
      simp
  · rw [List.getElem?_eq_none (by rw [seg_len]; omega), List.getElem?_eq_none (by simp; omega)]
theorem c_begin (l : Launch) (u : Mem) {v t k : Nat} {lo hi : Option (List Int)} (hV : Vw u v t lo hi) (hk : Ky u k) : Mt_ l yX11_begin cX11_begin 3 none 3 2 10 [aR v, aR k] u (qV fun u' => Nv u u' v t k lo hi (fun s => tx u k <+: s)) := by
  have kv := hV.1
  refine Mt_of (by decide) (Nat.le_of_ble_eq_true rfl) (fun X ho hX hN hI => ?_)
  subst hX
  show Z X 0 [some (aR v), some (aR k), none] [] u 0 0
  refine z_wf (fun hw => ?_)
  have hvl := hw.1 v (by omega)
  refine z_aload_n ho dX11_begin_0 rfl ?_
  refine z_aload_n ho dX11_begin_1 rfl ?_
  refine kX11_33 ho hN (c_from _ _ kv hV.2.2.1 hk) dX11_begin_2 kv (Nat.le_of_ble_eq_true rfl) (Nat.le_of_ble_eq_true rfl) (Nat.le_of_ble_eq_true rfl) (Nat.le_of_ble_eq_true rfl) (fun u2 h2 => ?_)
  have hf := h2
  obtain ⟨⟨lo1, hi1, hV1, hr1⟩, s1, z1, l1, i1, r1, o1⟩ := Nv.from hV hk hf
  have hzz : sz_ u2 = sz_ u := by rcases hf with ⟨z, -⟩ | ⟨z, -⟩ <;> rw [z]; rfl
  have o1' : ∀ i, (i = 1 ∨ i = 2) → rv_ u2 v i = rv_ u v i ∨ rv_ u2 v i = k := fun i _ => by
    rcases hf with ⟨z, -⟩ | ⟨z, -⟩
    · exact Or.inl (by rw [z])
    · rw [z, rv_wR]
      split
      · exact Or.inr rfl
      · exact Or.inl rfl
  refine z_wf (fun hw2 => ?_)
  have hkl := hk.lt hw
  have hk2 : Ky u2 k ∧ tx u2 k = tx u k := hk.same (s1 k hkl.1 (fun z => by have := hk.kd; rw [z] at this; omega)) (s1 (k + 1) hkl.2.1 (fun z => by have := hk.2.2.1; rw [z] at this; omega))
  obtain ⟨n1, n2, n3, n4, n5, n6, n7, n8⟩ := nkc hw2 hk2.1
  have hz2 := hw2.2.2
  have e0 : wR_ (al_ (al_ u2 2 0) 101 8) (sz_ u2) 0 (sz_ (al_ u2 2 0)) = nky u2 2 := rfl
  refine nX11_28 ho dX11_begin_5 (Nat.le_of_ble_eq_true rfl) (Nat.le_of_ble_eq_true rfl) ?_
  refine z_dup ho dX11_begin_8 rfl ?_
  refine kX11_37 ho hN (c_Key_init _ _ (Or.inl (by rw [kd_al, if_pos rfl]))) dX11_begin_9 (by omega) (Nat.le_of_ble_eq_true rfl) (Nat.le_of_ble_eq_true rfl) (Nat.le_of_ble_eq_true rfl) (Nat.le_of_ble_eq_true rfl) (fun u9 h9 => ?_)
  obtain rfl := h9
  rw [e0]
  refine z_aload_n ho dX11_begin_12 rfl ?_
  refine kX11_38 ho hN (c_copy _ _ n6 n7 n8) dX11_begin_13 (n6.1) (Nat.le_of_ble_eq_true rfl) (Nat.le_of_ble_eq_true rfl) (Nat.le_of_ble_eq_true rfl) (Nat.le_of_ble_eq_true rfl) (fun x13 u13 h13 => ?_)
  obtain ⟨rfl, rfl⟩ := h13
  refine z_astore_n ho dX11_begin_16 (Nat.le_of_ble_eq_true rfl) rfl ?_
  have kv2 : kd_ u2 v = 11 := hV1.1
  generalize ha : sz_ u2 = a at *
  generalize cpy (nky u2 2) a k = w at *
  have key : ∀ (n : Nat) (L : List Int) (w : Mem), L.length = n → Ky w a → tx w a = L → aft L = aft (tx u k) → kd_ w a = 2 → (∀ b, b < a → Sm u2 w b) → a ≤ sz_ w → Z X 17 [some (aR v), some (aR k), some (aR a)] [] w 2 10 := by
    intro n
    induction n with
    | zero =>
      intro L w hn k1 k2 k3 k4 k5 k6
      obtain rfl := List.eq_nil_of_length_eq_zero hn
      have hn0 : iv_ w a 1 = 0 := by have := k1.tx_len; rw [k2] at this; exact this.symm
      refine z_aload_n ho dX11_begin_17 rfl ?_
      refine gX11_42 ho dX11_begin_18 k1.1 ?_
      refine z_if_le (tgt := 53) ho dX11_begin_21 (by decide) (by unfold rng; omega) (fun c21 => ?_) (fun c21 => ?_)
      · 
        refine z_aload_n ho dX11_begin_53 rfl ?_
        refine gX11_42 ho dX11_begin_54 k1.1 ?_
        refine z_if_ne (tgt := 61) ho dX11_begin_57 (by decide) (by unfold rng; omega) (fun c57 => ?_) (fun c57 => ?_)
        · exact absurd hn0 c57
        · 
          refine r_V ho dX11_begin_60 (Nat.le_of_ble_eq_true rfl) (Nat.le_of_ble_eq_true rfl) ?_
          have sv := k5 v (by omega)
          refine ⟨⟨lo1, hi1, ⟨by rw [sv.1]; exact hV1.1, by rw [sv.2.2.2]; exact hV1.2.1, ?_, ?_⟩, fun s hs => ?_⟩, fun b h1 h2 => (s1 b h1 h2).tr (k5 b (by omega)), by omega, by rw [sv.2.1]; exact l1, fun i => by rw [sv.2.2.1]; exact i1 i, fun i h1 h2 => by rw [sv.2.2.2]; exact r1 i h1 h2, fun i h => by rw [sv.2.2.2]; rcases o1' i h with q | q; (· exact Or.inl q); exact Or.inr (Or.inl q)⟩
          · rw [sv.2.2.2]
            rcases hV1.2.2.1 with z | ⟨z, e⟩
            · exact Or.inl z
            · have hl := z.lt hw2
              have := z.same (k5 _ (by omega)) (k5 _ (by omega))
              exact Or.inr ⟨this.1, by rw [this.2]; exact e⟩
          · rw [sv.2.2.2]
            rcases hV1.2.2.2 with z | ⟨z, e⟩
            · exact Or.inl z
            · have hl := z.lt hw2
              have := z.same (k5 _ (by omega)) (k5 _ (by omega))
              exact Or.inr ⟨this.1, by rw [this.2]; exact e⟩
          · have h0 := hr1 s hs
            have h1 := begins_iff _ _ hk.Tx.2 hs.2
            rw [← k3] at h1
            exact ⟨fun h => ⟨(h0.mp h).1, h1.mpr ⟨(h0.mp h).2, fun a ha => by cases ha⟩⟩, fun h => h0.mpr ⟨h.1, (h1.mp h.2).1⟩⟩
      · omega
    | succ n ih =>
      intro L w hn k1 k2 k3 k4 k5 k6
      rcases List.eq_nil_or_concat L with rfl | ⟨L', c, hL⟩
      · simp at hn
      rw [List.concat_eq_append] at hL
      subst hL
      obtain ⟨t1, t2, t3, t4⟩ := tx_last k1 k2
      have hn1 : L'.length = n := by simpa using hn
      have hl8 := k1.2.2.2.2.2.1
      have e5 : (L'.length : Int) + 1 - 1 = L'.length := by omega
      have inc : c ≠ 65535 → Z X 53 [some (aR v), some (aR k), some (aR a)] [] w 2 10 := fun hc => by
        have sv := k5 v (by omega)
        refine z_aload_n ho dX11_begin_53 rfl ?_
        refine gX11_42 ho dX11_begin_54 k1.1 ?_
        refine z_if_ne (tgt := 61) ho dX11_begin_57 (by decide) (by unfold rng; omega) (fun c57 => ?_) (fun c57 => ?_)
        · 
          refine z_aload_n ho dX11_begin_61 rfl ?_
          refine gX11_46 ho dX11_begin_62 k1.1 ?_
          refine z_aload_n ho dX11_begin_65 rfl ?_
          refine gX11_42 ho dX11_begin_66 k1.1 ?_
          rw [t1, k1.2.1]
          refine z_iconst ho dX11_begin_69 ?_
          refine z_isub ho dX11_begin_70 ?_
          refine z_dup2 ho dX11_begin_71 rfl rfl ?_
          refine z_cald ho dX11_begin_72 (k1.2.2.1) (by omega) (by rw [k1.2.2.2.1]; omega) ?_
          rw [e5, t2]
          refine z_iconst ho dX11_begin_73 ?_
          refine z_iadd ho dX11_begin_74 ?_
          refine z_i2c ho dX11_begin_75 ?_
          refine z_cast ho dX11_begin_76 (k1.2.2.1) (by omega) (by rw [k1.2.2.2.1]; omega) (by omega) (by omega) ?_
          rw [show (c + 1) % 65536 = c + 1 by omega]
          obtain ⟨g1, g2⟩ := tx_set (d := c + 1) k1 k2 (by omega) (by omega)
          have S6 : ∀ b, b < a → Sm u2 (wI_ w (a + 1) (L'.length : Int) (c + 1)) b := fun b hb => (k5 b hb).tr (Sm.wI (by omega))
          have sv6 := S6 v (by omega)
          have hsz6 : a ≤ sz_ (wI_ w (a + 1) (L'.length : Int) (c + 1)) := k6
          have kd6 : kd_ (wI_ w (a + 1) (L'.length : Int) (c + 1)) a = 2 := k4
          generalize wI_ w (a + 1) (L'.length : Int) (c + 1) = w6 at *
          have hlo6 : KyO w6 (rv_ u2 v 1) lo1 := by
            rcases hV1.2.2.1 with z | ⟨z, e⟩
            · exact Or.inl z
            · have hl := z.lt hw2
              have := z.same (S6 _ (by omega)) (S6 _ (by omega))
              exact Or.inr ⟨this.1, by rw [this.2]; exact e⟩
          have hhi6 : KyO w6 (rv_ u2 v 2) hi1 := by
            rcases hV1.2.2.2 with z | ⟨z, e⟩
            · exact Or.inl z
            · have hl := z.lt hw2
              have := z.same (S6 _ (by omega)) (S6 _ (by omega))
              exact Or.inr ⟨this.1, by rw [this.2]; exact e⟩
          have hV6 : Vw w6 v t lo1 hi1 := ⟨by rw [sv6.1]; exact hV1.1, by rw [sv6.2.2.2]; exact hV1.2.1, by rw [sv6.2.2.2]; exact hlo6, by rw [sv6.2.2.2]; exact hhi6⟩
          refine z_aload_n ho dX11_begin_77 rfl ?_
          refine z_aload_n ho dX11_begin_78 rfl ?_
          refine kX11_53 ho hN (c_to _ _ hV6.1 hV6.2.2.2 g1) dX11_begin_79 hV6.1 (Nat.le_of_ble_eq_true rfl) (Nat.le_of_ble_eq_true rfl) (Nat.le_of_ble_eq_true rfl) (Nat.le_of_ble_eq_true rfl) (fun u79 h79 => ?_)
          refine r_V ho dX11_begin_82 (Nat.le_of_ble_eq_true rfl) (Nat.le_of_ble_eq_true rfl) ?_
          have ht := h79
          have hk79 : ∀ b, kd_ u79 b = kd_ w6 b := fun b => by rcases ht with ⟨z, -⟩ | ⟨z, -⟩ <;> rw [z] <;> rfl
          obtain ⟨⟨lo2, hi2, hV2, hr2⟩, s2, z2, l2, i2, r2, o2⟩ := Nv.to hV6 g1 ht
          refine ⟨⟨lo2, hi2, hV2, fun s hs => ?_⟩, fun b h1 h2 => ((s1 b h1 h2).tr (S6 b (by omega))).tr (s2 b (by omega) h2), by omega, by rw [l2, sv6.2.1]; exact l1, fun i => by rw [i2, sv6.2.2.1]; exact i1 i, fun i h1 h2 => by rw [r2 i h1 h2, sv6.2.2.2]; exact r1 i h1 h2, fun i h => ?_⟩
          · have h0 := hr1 s hs
            have h3 := hr2 s hs
            have h1 := begins_iff _ _ hk.Tx.2 hs.2
            rw [← k3, aft_inc hc] at h1
            exact ⟨fun h => ⟨(h0.mp (h3.mp h).1).1, h1.mpr ⟨(h0.mp (h3.mp h).1).2, fun a ha => by cases ha; have := (h3.mp h).2; rwa [g2] at this⟩⟩, fun h => h3.mpr ⟨h0.mpr ⟨h.1, (h1.mp h.2).1⟩, by show s < tx w6 a; rw [g2]; exact (h1.mp h.2).2 _ rfl⟩⟩
          · rcases o2 i h with q | q | q
            · rw [q, sv6.2.2.2]
              rcases o1' i h with y | y
              · exact Or.inl y
              · exact Or.inr (Or.inl y)
            · right; right; rw [q]; exact ⟨by omega, by rw [hk79]; exact kd6⟩
            · right; right; exact ⟨by omega, q.2⟩
        · omega
      refine z_aload_n ho dX11_begin_17 rfl ?_
      refine gX11_42 ho dX11_begin_18 k1.1 ?_
      refine z_if_le (tgt := 53) ho dX11_begin_21 (by decide) (by unfold rng; omega) (fun c21 => ?_) (fun c21 => ?_)
      · omega
      · 
        refine z_aload_n ho dX11_begin_24 rfl ?_
        refine gX11_46 ho dX11_begin_25 k1.1 ?_
        refine z_aload_n ho dX11_begin_28 rfl ?_
        refine gX11_42 ho dX11_begin_29 k1.1 ?_
        rw [t1, k1.2.1]
        refine z_iconst ho dX11_begin_32 ?_
        refine z_isub ho dX11_begin_33 ?_
        refine z_cald ho dX11_begin_34 (k1.2.2.1) (by omega) (by rw [k1.2.2.2.1]; omega) ?_
        rw [e5, t2]
        refine z_ldc ho q742 dX11_begin_35 (x := 65535) rfl ?_
        refine z_icmp_ne (tgt := 53) ho dX11_begin_37 (by decide) (by unfold rng; omega) (by unfold rng; omega) (fun c37 => ?_) (fun c37 => ?_)
        · exact inc c37
        · 
          subst c37
          refine z_aload_n ho dX11_begin_40 rfl ?_
          refine z_dup ho dX11_begin_41 rfl ?_
          refine gX11_42 ho dX11_begin_42 k1.1 ?_
          rw [t1]
          refine z_iconst ho dX11_begin_45 ?_
          refine z_isub ho dX11_begin_46 ?_
          refine pX11_42 ho dX11_begin_47 k1.1  ?_
          rw [e5]
          refine z_goto (tgt := 17) ho dX11_begin_50 (by decide) ?_
          obtain ⟨g1, g2⟩ := tx_pop k1 k2
          exact ih L' _ hn1 g1 g2 (by rw [← k3, aft_max]) k4 (fun b hb => (k5 b hb).tr (Sm.wI (by omega))) k6
  exact key _ (tx u k) w rfl n1 (by rw [n2]; exact hk2.2) rfl n3 n5 (by omega)
