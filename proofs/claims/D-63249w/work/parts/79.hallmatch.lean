set_option maxRecDepth 100000
/-! ===== KeyHall.match, edges, freeze ===== -/
/-- in how many of the first i characters a text differs from a pattern -/
def difN (s t : List Int) (i : Nat) : Nat := ((List.range i).filter (fun (j : Nat) => decide (¬ (ch t (j : Int) = 63 ∨ ch t (j : Int) = ch s (j : Int))))).length
theorem difN_succ (s t : List Int) (i : Nat) : difN s t (i + 1) = difN s t i + (if ch t (i : Int) = 63 ∨ ch t (i : Int) = ch s (i : Int) then 0 else 1) := by
  unfold difN
  rw [List.range_succ, List.filter_append, List.length_append]
  congr 1
  by_cases h : ch t (i : Int) = 63 ∨ ch t (i : Int) = ch s (i : Int)
  · rw [if_pos h, List.filter_cons_of_neg (by rw [decide_eq_true_eq]; exact fun z => z h)]
    rfl
  · rw [if_neg h, List.filter_cons_of_pos (by rw [decide_eq_true_eq]; exact h)]
    rfl
theorem c_differences (l : Launch) (u : Mem) {k q : Nat} (hk : Ky u k) (hq : Ky u q) (hl : iv_ u k 1 = iv_ u q 1) : Mt_ l yX1_differences cX1_differences 4 (some .int) 0 0 0 [aR k, aR q] u (qI fun r v => u = v ∧ r = (difN (tx u k) (tx u q) (tx u k).length : Nat)) := by
  have kn := hk.tx_len
  have n8 := hk.2.2.2.2.2.1
  have n0 := hk.2.2.2.2.1
  refine Mt_of (by decide) (Nat.le_of_ble_eq_true rfl) (fun X ho hX hN hI => ?_)
  subst hX
  show Z X 0 [some (aR k), some (aR q), none, none] [] u 0 0
  have key : ∀ (m i : Nat), m + i = (tx u k).length → Z X 4 [some (aR k), some (aR q), some (aI (difN (tx u k) (tx u q) i : Nat)), some (aI (i : Int))] [] u 0 0 := by
    intro m
    induction m with
    | zero =>
      intro i hi
      refine z_iload_n ho dX1_differences_4 rfl ?_
      refine z_aload_n ho dX1_differences_5 rfl ?_
      refine gX1_84 ho dX1_differences_6 hk.1 ?_
      refine z_icmp_ge (tgt := 52) ho dX1_differences_9 (by decide) (by unfold rng; omega) (by unfold rng; omega) (fun c9 => ?_) (fun c9 => ?_)
      · 
        refine z_iload_n ho dX1_differences_52 rfl ?_
        refine r_I ho dX1_differences_53 (Nat.le_of_ble_eq_true rfl) (Nat.le_of_ble_eq_true rfl) ?_
        exact ⟨rfl, by rw [show i = (tx u k).length by omega]⟩
      · omega
    | succ m ih =>
      intro i hi
      have e1 := hk.tx_ch (i := (i : Int)) (by omega) (by omega)
      have e2 := hq.tx_ch (i := (i : Int)) (by omega) (by omega)
      have r1 := hk.2.2.2.2.2.2 (i : Int) (by omega) (by omega)
      have r2 := hq.2.2.2.2.2.2 (i : Int) (by omega) (by omega)
      have nx := ih (i + 1) (by omega)
      rw [difN_succ, e1, e2] at nx
      have t44 : ∀ b : Int, b = (if iv_ u (q + 1) (i : Int) = 63 ∨ iv_ u (q + 1) (i : Int) = iv_ u (k + 1) (i : Int) then 0 else 1 : Nat) → Z X 44 [some (aR k), some (aR q), some (aI (difN (tx u k) (tx u q) i : Nat)), some (aI (i : Int))] [aI b, aI (difN (tx u k) (tx u q) i : Nat)] u 0 0 := fun b hb => by
        refine z_iadd ho dX1_differences_44 ?_
        refine z_istore_n ho dX1_differences_45 (Nat.le_of_ble_eq_true rfl) rfl ?_
        refine z_iinc ho dX1_differences_46 rfl rfl ?_
        refine z_goto (tgt := 4) ho dX1_differences_49 (by decide) ?_
        rw [hb]
        exact nx
      refine z_iload_n ho dX1_differences_4 rfl ?_
      refine z_aload_n ho dX1_differences_5 rfl ?_
      refine gX1_84 ho dX1_differences_6 hk.1 ?_
      refine z_icmp_ge (tgt := 52) ho dX1_differences_9 (by decide) (by unfold rng; omega) (by unfold rng; omega) (fun c9 => ?_) (fun c9 => ?_)
      · omega
      · 
        have t39 : (iv_ u (q + 1) (i : Int) = 63 ∨ iv_ u (q + 1) (i : Int) = iv_ u (k + 1) (i : Int)) → Z X 39 [some (aR k), some (aR q), some (aI (difN (tx u k) (tx u q) i : Nat)), some (aI (i : Int))] [aI (difN (tx u k) (tx u q) i : Nat)] u 0 0 := fun hc => by
          refine z_iconst ho dX1_differences_39 ?_
          refine z_goto (tgt := 44) ho dX1_differences_40 (by decide) ?_
          exact t44 0 (by rw [if_pos hc]; rfl)
        refine z_iload_n ho dX1_differences_12 rfl ?_
        refine z_aload_n ho dX1_differences_13 rfl ?_
        refine gX1_87 ho dX1_differences_14 hq.1 ?_
        rw [hq.2.1]
        refine z_iload_n ho dX1_differences_17 rfl ?_
        refine z_cald ho dX1_differences_18 hq.2.2.1 (by omega) (by rw [hq.2.2.2.1]; omega) ?_
        refine z_bipush ho dX1_differences_19 rfl ?_
        refine z_icmp_eq (tgt := 39) ho dX1_differences_21 (by decide) (by unfold rng; omega) (by unfold rng; omega) (fun c21 => ?_) (fun c21 => ?_)
        · exact t39 (Or.inl c21)
        · 
          refine z_aload_n ho dX1_differences_24 rfl ?_
          refine gX1_87 ho dX1_differences_25 hq.1 ?_
          rw [hq.2.1]
          refine z_iload_n ho dX1_differences_28 rfl ?_
          refine z_cald ho dX1_differences_29 hq.2.2.1 (by omega) (by rw [hq.2.2.2.1]; omega) ?_
          refine z_aload_n ho dX1_differences_30 rfl ?_
          refine gX1_87 ho dX1_differences_31 hk.1 ?_
          rw [hk.2.1]
          refine z_iload_n ho dX1_differences_34 rfl ?_
          refine z_cald ho dX1_differences_35 hk.2.2.1 (by omega) (by rw [hk.2.2.2.1]; omega) ?_
          refine z_icmp_ne (tgt := 43) ho dX1_differences_36 (by decide) (by unfold rng; omega) (by unfold rng; omega) (fun c36 => ?_) (fun c36 => ?_)
          · 
            refine z_iconst ho dX1_differences_43 ?_
            exact t44 1 (by rw [if_neg (by omega)]; rfl)
          · exact t39 (Or.inr c36)
  refine z_iconst ho dX1_differences_0 ?_
  refine z_istore_n ho dX1_differences_1 (Nat.le_of_ble_eq_true rfl) rfl ?_
  refine z_iconst ho dX1_differences_2 ?_
  refine z_istore_n ho dX1_differences_3 (Nat.le_of_ble_eq_true rfl) rfl ?_
  exact key _ 0 rfl
/-- what match counts -/
def mtc (tp : List Int) (d : Int) (s : List Int) : Prop := s.length = tp.length ∧ (difN s tp s.length : Int) ≤ d
/-- how many of a list of entries are such -/
noncomputable def cntE (u : Mem) (P : List Int → Prop) (A : List Nat) : Nat := (A.filter (fun e => @decide (P (tx u e)) (Classical.propDecidable _))).length
theorem cntE_snoc {u : Mem} {P : List Int → Prop} (A : List Nat) (e : Nat) : (P (tx u e) → cntE u P (A ++ [e]) = cntE u P A + 1) ∧ (¬ P (tx u e) → cntE u P (A ++ [e]) = cntE u P A) := by
  unfold cntE
  rw [List.filter_append, List.length_append]
  constructor
  · intro h; simp [h]
  · intro h; simp [h]
theorem Rl.cnt2 {u : Mem} {S R : List Nat} {lo hi : Option (List Int)} {P Q : List Int → Prop} {L : List KV} (h : Rl u S lo hi R) (hnd : S.Nodup) (hen : ∀ e ∈ S, En u e) (hP : ∀ s, Tx s → (inR lo hi s ↔ P s)) (hL : L = S.map (fun e => (tx u e, iv_ u e 2))) : cntE u Q R = cntV (fun s => P s ∧ Q s) L := by
  unfold cntV cntE
  rw [hL, List.filter_map, List.length_map]
  refine List.Perm.length_eq ((List.perm_ext_iff_of_nodup ((sorted_nd h.1).filter _) (hnd.filter _)).mpr (fun e => ?_))
  rw [List.mem_filter, h.2 e, List.mem_filter]
  constructor
  · rintro ⟨⟨q1, q2⟩, q3⟩
    exact ⟨q1, by simpa using ⟨(hP _ (hen e q1).1.Tx).mp q2, by simpa using q3⟩⟩
  · rintro ⟨q1, q2⟩
    have q2 : P (tx u e) ∧ Q (tx u e) := by simpa using q2
    exact ⟨⟨q1, (hP _ (hen e q1).1.Tx).mpr q2.1⟩, by simpa using q2.2⟩
theorem c_hmatch (l : Launch) (u : Mem) {x : Nat} {i d : Int} {tp fd : List Int} {M : Nat → List KV} {ch : Nat → Int} {VL : List VS} {Ks : List (List Int)} {T : List Int} {Os : List (List Int)} {vs : VS} (h : HS u x tp fd M ch VL Ks T Os) (h0 : 0 ≤ i) (hj : VL[i.toNat]? = some vs) (hd : 0 ≤ d) (rd : rng d) :
    Mt_ l yX1_match cX1_match 7 (some .int) 1104 2 12 [aR x, aI i, aI d] u (qI fun r v => MR x u v ∧ HS v x [] fd M ch VL Ks T Os ∧ r = (cntV (fun s => vs.2.1 s ∧ mtc tp d s) (M vs.1) : Nat)) := by
  have kx := h.2.1.1
  have g1 := h.1.1
  have hjl := (List.getElem?_eq_some_iff.mp hj).1
  have ei : (i.toNat : Int) = i := Int.toNat_of_nonneg h0
  refine Mt_of (by decide) (Nat.le_of_ble_eq_true rfl) (fun X ho hX hN hI => ?_)
  subst hX
  show Z X 0 [some (aR x), some (aI i), some (aI d), none, none, none, none] [] u 0 0
  refine z_wf (fun hw => ?_)
  refine z_aload_n ho dX1_match_0 rfl ?_
  refine z_iload_n ho dX1_match_1 rfl ?_
  refine kX1_91 ho hN (c_of_ _ _ h.2.1 h0 (by omega)) dX1_match_2 kx (by omega) (Nat.le_of_ble_eq_true rfl) (by omega) (by omega) (fun x2 u2 h2 => ?_)
  obtain ⟨rfl, rfl⟩ := h2
  refine z_astore_n ho dX1_match_5 (Nat.le_of_ble_eq_true rfl) rfl ?_
  refine z_aload_n ho dX1_match_6 rfl ?_
  refine kX1_95 ho hN (c_use _ _ h) dX1_match_7 kx (by omega) (Nat.le_of_ble_eq_true rfl) (by omega) (by omega) (fun x7 u7 h7 => ?_)
  obtain ⟨rfl, u2, u3, u4, u5, u6⟩ := h7
  refine z_wf (fun hw1 => ?_)
  obtain ⟨M1, S, hT1, hV1, hv1, hSl⟩ := h.useV hw hj u4 u5 u6
  rw [ei] at hv1
  have v2 := hv1.2.1
  obtain ⟨-, -, ⟨lo, hi, hVw, hR⟩, -⟩ := hv1
  obtain ⟨y1, y2, y3, y4, y5, y6⟩ := hT1.2.1 vs.1 v2
  obtain ⟨R, hRl⟩ := y1.rl (by omega) lo hi
  have hk1 := u2.1
  have htn := hk1.tx_len
  have key : ∀ (B A : List Nat), R = A ++ B → Z X 37 [some (aR x), some (aI i), some (aI d), some (aR (rv_ u (x + 3) i)), some (aR (x + 28)), some (aI (cntE u7 (mtc tp d) A : Nat)), some (aR (B.head?.getD 0))] [] u7 1 6 := by
    intro B
    induction B with
    | nil =>
      intro A hA
      rw [List.append_nil] at hA
      show Z X 37 [some (aR x), some (aI i), some (aI d), some (aR (rv_ u (x + 3) i)), some (aR (x + 28)), some (aI (cntE u7 (mtc tp d) A : Nat)), some (aR 0)] [] u7 1 6
      refine z_aload ho dX1_match_37 rfl ?_
      refine z_ifnull (tgt := 88) ho dX1_match_39 (by decide) (fun c39 => ?_) (fun c39 => ?_)
      · 
        refine z_iload ho dX1_match_88 rfl ?_
        refine r_I ho dX1_match_90 (Nat.le_of_ble_eq_true rfl) (Nat.le_of_ble_eq_true rfl) ?_
        exact ⟨M1, u3, by rw [← hA, hRl.cnt2 y4 (fun e he => y1.en e he) hR y5]⟩
      · exact absurd rfl c39
    | cons e B ih =>
      intro A hA
      have he := (hRl.2 e).mp (by rw [hA]; simp)
      have en := y1.en e he.1
      have e0 := en.ne0 hw1
      have hen := en.1.tx_len
      have b1 := en.1.2.2.2.2.1
      have b2 := en.1.2.2.2.2.2.1
      have b3 := hk1.2.2.2.2.1
      have b4 := hk1.2.2.2.2.2.1
      show Z X 37 [some (aR x), some (aI i), some (aI d), some (aR (rv_ u (x + 3) i)), some (aR (x + 28)), some (aI (cntE u7 (mtc tp d) A : Nat)), some (aR e)] [] u7 1 6
      have nx := ih (A ++ [e]) (by rw [hA]; simp)
      obtain ⟨n1, n2⟩ := cntE_snoc (u := u7) (P := mtc tp d) A e
      have t73 : ∀ b : Int, (cntE u7 (mtc tp d) A : Int) + b = (cntE u7 (mtc tp d) (A ++ [e]) : Nat) → Z X 73 [some (aR x), some (aI i), some (aI d), some (aR (rv_ u (x + 3) i)), some (aR (x + 28)), some (aI (cntE u7 (mtc tp d) A : Nat)), some (aR e)] [aI b, aI (cntE u7 (mtc tp d) A : Nat)] u7 1 6 := fun b hb => by
        refine z_iadd ho dX1_match_73 ?_
        refine z_istore ho dX1_match_74 (Nat.le_of_ble_eq_true rfl) rfl ?_
        refine z_aload_n ho dX1_match_76 rfl ?_
        refine z_aload ho dX1_match_77 rfl ?_
        refine z_iconst ho dX1_match_79 ?_
        refine kX1_209 ho hN (c_up _ _ hVw y1 y2 (by omega) (Or.inr en.1) (Or.inr rfl)) dX1_match_80 hVw.1 (by omega) (Nat.le_of_ble_eq_true rfl) (by omega) (by omega) (fun x80 u80 h80 => ?_)
        obtain ⟨rfl, hq⟩ := h80
        refine z_astore ho dX1_match_83 (Nat.le_of_ble_eq_true rfl) rfl ?_
        refine z_goto (tgt := 37) ho dX1_match_85 (by decide) ?_
        rw [up_next (by rw [← hA]; exact hRl) e0 hq]
        rw [hb]
        exact nx
      have t72 : ¬ mtc tp d (tx u7 e) → Z X 72 [some (aR x), some (aI i), some (aI d), some (aR (rv_ u (x + 3) i)), some (aR (x + 28)), some (aI (cntE u7 (mtc tp d) A : Nat)), some (aR e)] [aI (cntE u7 (mtc tp d) A : Nat)] u7 1 6 := fun hn => by
        refine z_iconst ho dX1_match_72 ?_
        exact t73 0 (by rw [n2 hn]; omega)
      refine z_aload ho dX1_match_37 rfl ?_
      refine z_ifnull (tgt := 88) ho dX1_match_39 (by decide) (fun c39 => ?_) (fun c39 => ?_)
      · exact absurd c39 e0
      · 
        refine z_iload ho dX1_match_42 rfl ?_
        refine z_aload ho dX1_match_44 rfl ?_
        refine gX1_212 ho dX1_match_46 en.2 ?_
        refine z_aload ho dX1_match_49 rfl ?_
        refine gX1_84 ho dX1_match_51 hk1.1 ?_
        refine z_icmp_ne (tgt := 72) ho dX1_match_54 (by decide) (by unfold rng; omega) (by unfold rng; omega) (fun c54 => ?_) (fun c54 => ?_)
        · exact t72 (fun z => c54 (by have := z.1; rw [← u2.2.2] at this; omega))
        · 
          refine z_aload ho dX1_match_57 rfl ?_
          refine z_aload ho dX1_match_59 rfl ?_
          refine kX1_213 ho hN (c_differences _ _ en.1 hk1 c54) dX1_match_61 (by omega) (Nat.le_of_ble_eq_true rfl) (by omega) (by omega) (fun x61 u61 h61 => ?_)
          obtain ⟨rfl, rfl⟩ := h61
          refine z_iload_n ho dX1_match_64 rfl ?_
          refine z_icmp_gt (tgt := 72) ho dX1_match_65 (by decide) (by have : difN (tx u7 e) (tx u7 (x + 28)) (tx u7 e).length ≤ (tx u7 e).length := by { unfold difN; refine Nat.le_trans (List.length_filter_le _ _) ?_; simp }; unfold rng; omega) rd (fun c65 => ?_) (fun c65 => ?_)
          · rw [u2.2.2] at c65
            exact t72 (fun z => by have := z.2; omega)
          · rw [u2.2.2] at c65
            refine z_iconst ho dX1_match_68 ?_
            refine z_goto (tgt := 73) ho dX1_match_69 (by decide) ?_
            exact t73 1 (by rw [n1 ⟨by rw [← u2.2.2]; omega, c65⟩]; omega)
  refine z_astore ho dX1_match_10 (Nat.le_of_ble_eq_true rfl) rfl ?_
  refine z_iload_n ho dX1_match_12 rfl ?_
  refine z_if_ge (tgt := 26) ho dX1_match_13 (by decide) rd (fun c13 => ?_) (fun c13 => ?_)
  · 
    refine z_iconst ho dX1_match_26 ?_
    refine z_istore ho dX1_match_27 (Nat.le_of_ble_eq_true rfl) rfl ?_
    refine z_aload_n ho dX1_match_29 rfl ?_
    refine z_null ho dX1_match_30 ?_
    refine z_iconst ho dX1_match_31 ?_
    refine kX1_209 ho hN (c_up _ _ hVw y1 y2 (by omega) (Or.inl rfl) (Or.inl rfl)) dX1_match_32 hVw.1 (by omega) (Nat.le_of_ble_eq_true rfl) (by omega) (by omega) (fun x32 u32 h32 => ?_)
    obtain ⟨rfl, hq⟩ := h32
    refine z_astore ho dX1_match_35 (Nat.le_of_ble_eq_true rfl) rfl ?_
    rw [up_first hRl hq]
    exact key R [] rfl
  · omega
theorem t_hmatch2 (l : Launch) (hst : l.stackTraces = false) (u : Mem) {x : Nat} {i d : Int} {tp fd : List Int} {M : Nat → List KV} {ch : Nat → Int} {VL : List VS} {Ks : List (List Int)} {T : List Int} {Os : List (List Int)} {vs : VS} (h : HS u x tp fd M ch VL Ks T Os) (h0 : 0 ≤ i) (hj : VL[i.toNat]? = some vs) (hd : d < 0) (rd : rng d) :
    Th_ l yX1_match cX1_match 7 (some .int) 1104 2 12 [aR x, aI i, aI d] u (qTh 20 x u [] fd M ch VL Ks T Os) := by
  have kx := h.2.1.1
  have g1 := h.1.1
  have hjl := (List.getElem?_eq_some_iff.mp hj).1
  refine Th_of (by decide) (Nat.le_of_ble_eq_true rfl) (fun X ho hT hX hN => ?_)
  subst hX
  show Z X 0 [some (aR x), some (aI i), some (aI d), none, none, none, none] [] u 0 0
  refine z_wf (fun hw => ?_)
  refine z_aload_n ho dX1_match_0 rfl ?_
  refine z_iload_n ho dX1_match_1 rfl ?_
  refine kX1_91 ho hN (c_of_ _ _ h.2.1 h0 (by omega)) dX1_match_2 kx (by omega) (Nat.le_of_ble_eq_true rfl) (by omega) (by omega) (fun x2 u2 h2 => ?_)
  obtain ⟨rfl, rfl⟩ := h2
  refine z_astore_n ho dX1_match_5 (Nat.le_of_ble_eq_true rfl) rfl ?_
  refine z_aload_n ho dX1_match_6 rfl ?_
  refine kX1_95 ho hN (c_use _ _ h) dX1_match_7 kx (by omega) (Nat.le_of_ble_eq_true rfl) (by omega) (by omega) (fun x7 u7 h7 => ?_)
  obtain ⟨rfl, u2, u3, u4, u5, u6⟩ := h7
  refine z_wf (fun hw1 => ?_)
  obtain ⟨M1, -⟩ := h.useV hw hj u4 u5 u6
  refine z_astore ho dX1_match_10 (Nat.le_of_ble_eq_true rfl) rfl ?_
  refine z_iload_n ho dX1_match_12 rfl ?_
  refine z_if_ge (tgt := 26) ho dX1_match_13 (by decide) rd (fun c13 => ?_) (fun c13 => ?_)
  · omega
  · 
    refine tx_20 ho hT hst hN (sidx := 207) (tx := "no such distance") (by simp [nestS_]) dX1_match_16 dX1_match_19 dX1_match_20 dX1_match_22 dX1_match_25 (by omega) (by omega) (Nat.le_of_ble_eq_true rfl) (Nat.le_of_ble_eq_true rfl) ?_
    exact qTh_tr M1 (qTh_ex u3 hw1 ⟨rfl, rfl⟩)
theorem t_hmatch1 (l : Launch) (hst : l.stackTraces = false) (u : Mem) {x : Nat} {i d : Int} {tp fd : List Int} {M : Nat → List KV} {ch : Nat → Int} {VL : List VS} {Ks : List (List Int)} {T : List Int} {Os : List (List Int)} (h : HS u x tp fd M ch VL Ks T Os) (ri : rng i) (hn : ¬ (0 ≤ i ∧ i < VL.length)) : Th_ l yX1_match cX1_match 7 (some .int) 1104 2 12 [aR x, aI i, aI d] u (qTh 19 x u tp fd M ch VL Ks T Os) := by
  have kx := h.2.1.1
  refine Th_of (by decide) (Nat.le_of_ble_eq_true rfl) (fun X ho hT hX hN => ?_)
  subst hX
  show Z X 0 [some (aR x), some (aI i), some (aI d), none, none, none, none] [] u 0 0
  refine z_wf (fun hw => ?_)
  refine z_aload_n ho dX1_match_0 rfl ?_
  refine z_iload_n ho dX1_match_1 rfl ?_
  refine tX1_91 ho hT hN (t_of_ _ hst _ h.2.1 ri hn) dX1_match_2 kx (Nat.le_of_ble_eq_true rfl) (Nat.le_of_ble_eq_true rfl) (Nat.le_of_ble_eq_true rfl) (Nat.le_of_ble_eq_true rfl) (fun x2 u2 h2 => ?_)
  exact qTh_ex h hw h2
/-! ===== edges ===== -/
theorem c_hedges1 (l : Launch) (u : Mem) {x : Nat} {w : Int} {tp fd : List Int} {M : Nat → List KV} {ch : Nat → Int} {VL : List VS} {Ks : List (List Int)} {T : List Int} {Os : List (List Int)} (h : HS u x tp fd M ch VL Ks T Os) (h0 : 0 ≤ w) (h1 : w < 5) :
    Mt_ l yX1_edges cX1_edges 3 (some .int) 24 2 11 [aR x, aI w] u (qI fun r v => MR x u v ∧ HS v x tp fd M ch VL Ks T Os ∧ ∃ L K, (∀ s, s ∈ K ↔ ∃ p ∈ M 1, ocL p.1 = s) ∧ Inns K L ∧ r = cnt w L) := by
  obtain ⟨kx, q0, q1, q2, q3, q4, q5, q6, q7, q8, kv, lv, hn⟩ := h.2.1
  have g1 := h.1.1
  obtain ⟨S, hT, hV⟩ := h.2.2.2.2.2.1
  obtain ⟨y1, y2, y3, y4, y5, y6⟩ := hT.2.1 1 (by decide)
  have k5 := hT.1.2.1
  have hY : YT (hG x) u (x + 5) (S 1) := y1.y k5
  refine Mt_of (by decide) (Nat.le_of_ble_eq_true rfl) (fun X ho hX hN hI => ?_)
  subst hX
  show Z X 0 [some (aR x), some (aI w), none] [] u 0 0
  refine z_wf (fun hw => ?_)
  refine z_iload_n ho dX1_edges_0 rfl ?_
  refine z_if_lt (tgt := 13) ho dX1_edges_1 (by decide) (by unfold rng; omega) (fun c1 => ?_) (fun c1 => ?_)
  · omega
  · 
    refine z_iload_n ho dX1_edges_4 rfl ?_
    refine z_iconst ho dX1_edges_5 ?_
    refine z_icmp_gt (tgt := 13) ho dX1_edges_6 (by decide) (by unfold rng; omega) (by unfold rng; omega) (fun c6 => ?_) (fun c6 => ?_)
    · omega
    · 
      refine z_iconst ho dX1_edges_9 ?_
      refine z_goto (tgt := 14) ho dX1_edges_10 (by decide) ?_
      refine kX1_76 ho hN (c_need _ _) dX1_edges_14 (by omega) (Nat.le_of_ble_eq_true rfl) (by omega) (by omega) (fun u14 h14 => ?_)
      obtain rfl := h14
      refine z_iload_n ho dX1_edges_17 rfl ?_
      refine z_iconst ho dX1_edges_18 ?_
      refine z_icmp_ge (tgt := 31) ho dX1_edges_19 (by decide) (by unfold rng; omega) (by unfold rng; omega) (fun c19 => ?_) (fun c19 => ?_)
      · omega
      · 
        refine z_aload_n ho dX1_edges_22 rfl ?_
        refine gX1_36 ho dX1_edges_23 kx ?_
        rw [q4]
        refine z_iload_n ho dX1_edges_26 rfl ?_
        refine kX1_217 ho hN (c_inner _ _ hY h0 h1) dX1_edges_27 k5 (by omega) (Nat.le_of_ble_eq_true rfl) (by omega) (by omega) (fun x27 u27 h27 => ?_)
        obtain ⟨⟨L, K, e1, e2, e3⟩, e4, e5⟩ := h27
        refine r_I ho dX1_edges_30 (Nat.le_of_ble_eq_true rfl) (Nat.le_of_ble_eq_true rfl) ?_
        refine ⟨⟨by omega, fun a q1 q2 => e5 a (by omega)⟩, h.grow hw (by omega) e5, L, K, fun s => ?_, e2, e3⟩
        rw [e1 s, y5]
        simp only [List.mem_map]
        constructor
        · rintro ⟨e, he, hs⟩
          exact ⟨_, ⟨e, he, rfl⟩, hs⟩
        · rintro ⟨p, ⟨e, he, rfl⟩, hs⟩
          exact ⟨e, he, hs⟩
theorem c_hedges2 (l : Launch) (u : Mem) {x : Nat} {tp fd : List Int} {M : Nat → List KV} {ch : Nat → Int} {VL : List VS} {Ks : List (List Int)} {T : List Int} {Os : List (List Int)} (h : HS u x tp fd M ch VL Ks T Os) :
    Mt_ l yX1_edges cX1_edges 3 (some .int) 24 2 11 [aR x, aI 5] u (qI fun r v => MR x u v ∧ HS v x [] fd M ch VL Ks T Os ∧ (((∀ p ∈ M 0, p.1 ≠ tp) ∧ r = -1) ∨ ((∃ p ∈ M 0, p.1 = tp) ∧ ∃ L : List Int, L.Nodup ∧ (∀ i, i ∈ L ↔ ∃ p ∈ M 0, fdf p.1 tp i) ∧ r = L.length))) := by
  have kx := h.2.1.1
  have g1 := h.1.1
  obtain ⟨S, hT, hV⟩ := h.2.2.2.2.2.1
  refine Mt_of (by decide) (Nat.le_of_ble_eq_true rfl) (fun X ho hX hN hI => ?_)
  subst hX
  show Z X 0 [some (aR x), some (aI  5), none] [] u 0 0
  refine z_wf (fun hw => ?_)
  refine z_iload_n ho dX1_edges_0 rfl ?_
  refine z_if_lt (tgt := 13) ho dX1_edges_1 (by decide) (by unfold rng; omega) (fun c1 => ?_) (fun c1 => ?_)
  · omega
  · 
    refine z_iload_n ho dX1_edges_4 rfl ?_
    refine z_iconst ho dX1_edges_5 ?_
    refine z_icmp_gt (tgt := 13) ho dX1_edges_6 (by decide) (by unfold rng; omega) (by unfold rng; omega) (fun c6 => ?_) (fun c6 => ?_)
    · omega
    · 
      refine z_iconst ho dX1_edges_9 ?_
      refine z_goto (tgt := 14) ho dX1_edges_10 (by decide) ?_
      refine kX1_76 ho hN (c_need _ _) dX1_edges_14 (by omega) (Nat.le_of_ble_eq_true rfl) (by omega) (by omega) (fun u14 h14 => ?_)
      obtain rfl := h14
      refine z_iload_n ho dX1_edges_17 rfl ?_
      refine z_iconst ho dX1_edges_18 ?_
      refine z_icmp_ge (tgt := 31) ho dX1_edges_19 (by decide) (by unfold rng; omega) (by unfold rng; omega) (fun c19 => ?_) (fun c19 => ?_)
      · 
        refine z_aload_n ho dX1_edges_31 rfl ?_
        refine kX1_95 ho hN (c_use _ _ h) dX1_edges_32 kx (by omega) (Nat.le_of_ble_eq_true rfl) (by omega) (by omega) (fun x32 u32 h32 => ?_)
        obtain ⟨rfl, u2, u3, u4, u5, u6⟩ := h32
        refine z_wf (fun hw1 => ?_)
        have M1 : MR x u u32 := ⟨by omega, fun a q1 q2 => u6 a (by omega) (by omega) (by omega)⟩
        obtain ⟨hT1, hV1, hK1⟩ := h.keepS hT hV hw (by omega) u5 (fun a ha hn => u6 a (fun z => hn (Or.inl z)) (fun z => hn (by unfold kC; simp [z])) (fun z => hn (by unfold kC; simp [z])))
        obtain ⟨y1, y2, y3, y4, y5, y6⟩ := hT1.2.1 0 (by decide)
        have k4 := hT1.1.1
        have hB : BT u32 (x + 4) (S 0) := y1.b k4
        obtain ⟨kx1, -, -, -, q3, -⟩ := u3.2.1
        have mm : ∀ p, p ∈ M 0 ↔ ∃ e ∈ S 0, (tx u32 e, iv_ u32 e 2) = p := fun p => by rw [y5]; exact List.mem_map
        refine z_astore_n ho dX1_edges_35 (Nat.le_of_ble_eq_true rfl) rfl ?_
        refine z_aload_n ho dX1_edges_36 rfl ?_
        refine gX1_29 ho dX1_edges_37 kx1 ?_
        rw [q3]
        refine z_aload_n ho dX1_edges_40 rfl ?_
        refine kX1_221 ho hN (c_BT_get _ _ hB u2.1) dX1_edges_41 k4 (by omega) (Nat.le_of_ble_eq_true rfl) (by omega) (by omega) (fun x41 u41 h41 => ?_)
        obtain ⟨rfl, hg⟩ := h41
        refine z_ifnonnull (tgt := 51) ho dX1_edges_44 (by decide) (fun c44 => ?_) (fun c44 => ?_)
        · have hg' := hg.resolve_left (fun z => c44 z.1)
          refine z_aload_n ho dX1_edges_51 rfl ?_
          refine gX1_29 ho dX1_edges_52 kx1 ?_
          rw [q3]
          refine z_aload_n ho dX1_edges_55 rfl ?_
          refine kX1_222 ho hN (c_depth _ _ hB u2.1 ⟨_, hg'.1, hg'.2⟩) dX1_edges_56 k4 (by omega) (Nat.le_of_ble_eq_true rfl) (by omega) (by omega) (fun x56 u56 h56 => ?_)
          obtain ⟨rfl, L, l1, l2, l3⟩ := h56
          refine r_I ho dX1_edges_59 (Nat.le_of_ble_eq_true rfl) (Nat.le_of_ble_eq_true rfl) ?_
          refine ⟨M1, u3, Or.inr ⟨⟨_, (mm _).mpr ⟨_, hg'.1, rfl⟩, by rw [← u2.2.2]; exact hg'.2⟩, L, l1, fun i => ?_, l3⟩⟩
          rw [l2 i, u2.2.2]
          constructor
          · rintro ⟨e, he, hs⟩
            exact ⟨_, (mm _).mpr ⟨e, he, rfl⟩, hs⟩
          · rintro ⟨p, hp, hs⟩
            obtain ⟨e, he, rfl⟩ := (mm p).mp hp
            exact ⟨e, he, hs⟩
        · 
          refine z_iconst ho dX1_edges_47 ?_
          refine z_goto (tgt := 59) ho dX1_edges_48 (by decide) ?_
          refine r_I ho dX1_edges_59 (Nat.le_of_ble_eq_true rfl) (Nat.le_of_ble_eq_true rfl) ?_
          refine ⟨M1, u3, Or.inl ⟨fun p hp => ?_, rfl⟩⟩
          obtain ⟨e, he, rfl⟩ := (mm p).mp hp
          rcases hg with ⟨-, z⟩ | ⟨z, -⟩
          · rw [← u2.2.2]; exact z e he
          · exact absurd c44 ((y1.en _ z).ne0 hw1)
      · omega
theorem t_hedges (l : Launch) (hst : l.stackTraces = false) (u : Mem) {x : Nat} {w : Int} {tp fd : List Int} {M : Nat → List KV} {ch : Nat → Int} {VL : List VS} {Ks : List (List Int)} {T : List Int} {Os : List (List Int)} (h : HS u x tp fd M ch VL Ks T Os) (rw_ : rng w) (hn : ¬ (0 ≤ w ∧ w ≤ 5)) : Th_ l yX1_edges cX1_edges 3 (some .int) 24 2 11 [aR x, aI w] u (qTh 19 x u tp fd M ch VL Ks T Os) := by
  refine Th_of (by decide) (Nat.le_of_ble_eq_true rfl) (fun X ho hT hX hN => ?_)
  subst hX
  show Z X 0 [some (aR x), some (aI w), none] [] u 0 0
  refine z_wf (fun hw => ?_)
  have t13 : Z X 13 [some (aR x), some (aI w), none] [] u 0 0 := by
    refine z_iconst ho dX1_edges_13 ?_
    refine tX1_76 ho hT hN (t_need _ hst _) dX1_edges_14 (by omega) (Nat.le_of_ble_eq_true rfl) (by omega) (by omega) (fun x14 u14 h14 => ?_)
    exact qTh_ex h hw h14
  refine z_iload_n ho dX1_edges_0 rfl ?_
  refine z_if_lt (tgt := 13) ho dX1_edges_1 (by decide) rw_ (fun c1 => ?_) (fun c1 => ?_)
  · exact t13
  · 
    refine z_iload_n ho dX1_edges_4 rfl ?_
    refine z_iconst ho dX1_edges_5 ?_
    refine z_icmp_gt (tgt := 13) ho dX1_edges_6 (by decide) rw_ (by unfold rng; omega) (fun c6 => ?_) (fun c6 => ?_)
    · exact t13
    · omega
/-! ===== freeze ===== -/
/-- the automaton and the scroll change: maps and views are the same -/
theorem HS.keepA {u v : Mem} {x : Nat} {tp fd : List Int} {M : Nat → List KV} {ch : Nat → Int} {VL : List VS} {Ks : List (List Int)} {T : List Int} {Os : List (List Int)} {S : Nat → List Nat} (h : HS u x tp fd M ch VL Ks T Os) (hT : HT u x S M ch) (hV : HV u x S ch VL) (hw : Wf u) (hz : sz_ u ≤ sz_ v) (hkl : ∀ a, a < sz_ u → kd_ v a = kd_ u a ∧ ln_ v a = ln_ u a) (hs : ∀ a, a < sz_ u → ¬ (x + 15 ≤ a ∧ a < x + 28) → Sm u v a) : HT v x S M ch ∧ HV v x S ch VL ∧ Kp_ x u v := by
  obtain ⟨⟨g1, g2⟩, hF, t1, f1, ⟨h0, d1⟩, -, hA, hX⟩ := h
  have kk : ∀ a, x + 15 ≤ a ∧ a < x + 28 → kd_ u a = 9 ∨ kd_ u a = 10 ∨ kd_ u a = 100 ∨ kd_ u a = 101 ∨ kd_ u a = 102 ∨ kd_ u a = 107 := fun a ha => by
    obtain ⟨⟨⟨a0, -⟩, ⟨a1, -⟩, ⟨a2, -⟩, ⟨a3, -⟩, ⟨a4, -⟩, ⟨a5, -⟩, ⟨a6, -⟩, -⟩, -⟩ := hA
    obtain ⟨⟨⟨⟨b0, -⟩, ⟨b1, -⟩, ⟨b2, -⟩, ⟨b3, -⟩, ⟨b4, -⟩, ⟨b5, -⟩, -⟩, -⟩, -⟩ := hX
    have : a = x + 15 ∨ a = x + 16 ∨ a = x + 17 ∨ a = x + 18 ∨ a = x + 19 ∨ a = x + 20 ∨ a = x + 21 ∨ a = x + 22 ∨ a = x + 23 ∨ a = x + 24 ∨ a = x + 25 ∨ a = x + 26 ∨ a = x + 27 := by omega
    rcases this with z | z | z | z | z | z | z | z | z | z | z | z | z <;> (rw [z]; omega)
  have hK : Kp_ x u v := ⟨hz, hkl, fun a ha hE _ => hs a ha (by omega)⟩
  have sx : ∀ a, a < x + 64 → ¬ (x + 15 ≤ a ∧ a < x + 28) → Sm u v a := fun a ha hn => hs a (by omega) hn
  refine ⟨hT.same hw hK (fun i hi => ?_) (fun i a hi ha hsc => hs a ha (fun z => ?_)), hV.same hw hK (sx _ (by omega) (by omega)) (fun a ha hk => hs a ha (fun z => by have := kk a z; omega)) (fun _ => Int.le_refl _) (fun vs _ a _ _ z => ⟨z, fun y => y⟩), hK⟩
  · have := tA_3 x i
    have s := sx (tA x i) (by omega) (by omega)
    exact ⟨s.2.2.2, s.2.2.1 0, s.2.2.1 1⟩
  · have := kk a z
    unfold Sc K5 hG at hsc
    omega
theorem c_hfreeze (l : Launch) (u : Mem) {x : Nat} {i : Int} {tp fd : List Int} {M : Nat → List KV} {ch : Nat → Int} {VL : List VS} {Ks : List (List Int)} {T : List Int} {Os : List (List Int)} {vs : VS} (h : HS u x tp fd M ch VL Ks T Os) (h0 : 0 ≤ i) (hj : VL[i.toNat]? = some vs) :
    Mt_ l yX1_freeze cX1_freeze 4 (some .int) 1104 2 12 [aR x, aI i] u (qI fun r v => MR x u v ∧ ∃ Ks', (∀ s, s ∈ Ks' ↔ vs.2.1 s ∧ ∃ p ∈ M vs.1, p.1 = s) ∧ HS v x tp fd M ch VL Ks' T Os ∧ ∃ Rs, Cls Ks' Rs ∧ r = (nums 0 Rs : Nat)) := by
  have kx := h.2.1.1
  have e6 := h.2.1.2.2.2.2.2.2.2.1
  have g1 := h.1.1
  have hjl := (List.getElem?_eq_some_iff.mp hj).1
  have ei : (i.toNat : Int) = i := Int.toNat_of_nonneg h0
  obtain ⟨S, hTr, hV, hv, hSl⟩ := h.view hj
  rw [ei] at hv
  have v2 := hv.2.1
  obtain ⟨lo, hi, hVw, hR⟩ := hv.2.2.1
  obtain ⟨y1, y2, y3, y4, y5, y6⟩ := hTr.2.1 vs.1 v2
  obtain ⟨R, hRl⟩ := y1.rl (by omega) lo hi
  have hRlen := hRl.len
  obtain ⟨hAX, -, -⟩ := h.2.2.2.2.2.2.1
  have hXX := h.2.2.2.2.2.2.2
  have ka := hAX.1.1
  refine Mt_of (by decide) (Nat.le_of_ble_eq_true rfl) (fun X ho hX hN hI => ?_)
  subst hX
  show Z X 0 [some (aR x), some (aI i), none, none] [] u 0 0
  refine z_wf (fun hw => ?_)
  -- what a memory keeps whose automaton has changed
  have kp : ∀ w : Mem, Fr (aQ (x + 15) (x + 16) (x + 17) (x + 18) (x + 19) (x + 20) (x + 21)) u w → (∀ a, a < sz_ u → ¬ (x + 15 ≤ a ∧ a < x + 22) → Sm u w a) ∧ HT w x S M ch ∧ HV w x S ch VL ∧ Kp_ x u w := fun w hF => by
    have hs : ∀ a, a < sz_ u → ¬ (x + 15 ≤ a ∧ a < x + 22) → Sm u w a := fun a ha hn => (hF.2 a ha).2.2 (fun z => by unfold aQ at z; omega)
    exact ⟨hs, h.keepA hTr hV hw hF.1 (fun a ha => ⟨(hF.2 a ha).1, (hF.2 a ha).2.1⟩) (fun a ha hn => hs a ha (by omega))⟩
  have hal := (hw.1 _ (show kd_ u (rv_ u (x + 3) i) ≠ 0 by rw [hVw.1]; decide)).1
  have haV : ¬ (x + 15 ≤ rv_ u (x + 3) i ∧ rv_ u (x + 3) i < x + 22) := by have := hv.1; omega
  have key : ∀ (B A : List Nat) (w : Mem), R = A ++ B → Fr (aQ (x + 15) (x + 16) (x + 17) (x + 18) (x + 19) (x + 20) (x + 21)) u w → sz_ w = sz_ u → AX w (x + 15) (x + 16) (x + 17) (x + 18) (x + 19) (x + 20) (x + 21) → AB w (x + 15) (x + 16) (x + 17) (x + 18) (x + 19) (x + 20) (A.map (tx u)) → Z X 20 [some (aR x), some (aI i), some (aR (rv_ u (x + 3) i)), some (aR (B.head?.getD 0))] [] w 1 6 := by
    intro B
    induction B with
    | nil =>
      intro A w hA hF hz hX hAB
      rw [List.append_nil] at hA
      subst hA
      obtain ⟨hs, hTw, hVw', hKw⟩ := kp w hF
      have sx := hs x (by omega) (by omega)
      have kxw : kd_ w x = 1 := by rw [sx.1]; exact kx
      have e6w : rv_ w x 6 = x + 15 := by rw [sx.2.2.2]; exact e6
      show Z X 20 [some (aR x), some (aI i), some (aR (rv_ u (x + 3) i)), some (aR 0)] [] w 1 6
      have h8 : ∀ k ∈ R.map (tx u), k.length ≤ 8 := fun k hk => by
        obtain ⟨e, he, rfl⟩ := List.mem_map.mp hk
        exact (y1.en e ((hRl.2 e).mp he).1).1.Tx.1
      refine z_aload_n ho dX1_freeze_20 rfl ?_
      refine z_ifnull (tgt := 42) ho dX1_freeze_21 (by decide) (fun c21 => ?_) (fun c21 => ?_)
      · 
        refine z_aload_n ho dX1_freeze_42 rfl ?_
        refine gX1_46 ho dX1_freeze_43 kxw ?_
        rw [e6w]
        refine kX1_228 ho hN (c_aend _ _ hX hAB (by rw [List.length_map]; omega) h8) dX1_freeze_46 hX.1.1 (by omega) (Nat.le_of_ble_eq_true rfl) (by omega) (by omega) (fun u46 h46 => ?_)
        obtain ⟨z1, z2, z3, z4⟩ := h46
        have hF2 := hF.tr z2
        obtain ⟨hs2, hT2, hV2, hK2⟩ := kp u46 hF2
        have sx2 := hs2 x (by omega) (by omega)
        refine z_aload_n ho dX1_freeze_49 rfl ?_
        refine gX1_46 ho dX1_freeze_50 (by rw [sx2.1]; exact kx) ?_
        rw [sx2.2.2.2, e6]
        refine z_iconst ho dX1_freeze_53 ?_
        refine kX1_231 ho hN (c_count _ _ z4 z1 (by decide) (by decide)) dX1_freeze_54 z4.1.1 (by omega) (Nat.le_of_ble_eq_true rfl) (by omega) (by omega) (fun x54 u54 h54 => ?_)
        obtain ⟨rfl, Rs, r1, r2⟩ := h54
        refine r_I ho dX1_freeze_57 (Nat.le_of_ble_eq_true rfl) (Nat.le_of_ble_eq_true rfl) ?_
        refine ⟨⟨by omega, fun a q1 q2 => hs2 a (by omega) (by omega)⟩, R.map (tx u), fun s => ?_, h.part hw (by omega) (fun a ha => ⟨(hF2.2 a ha).1, (hF2.2 a ha).2.1⟩) (fun a ha hn => hs2 a ha (by omega)) ⟨z4, z1, by rw [List.length_map]; omega⟩ (hXX.same hw hK2 (fun a ha hk => hs2 a ha (fun z => ?_)) (fun a q1 q2 => hs2 a (by omega) (by omega))), Rs, r1, r2⟩
        · rw [List.mem_map]
          constructor
          · rintro ⟨e, he, rfl⟩
            have := (hRl.2 e).mp he
            exact ⟨(hR _ (y1.en e this.1).1.Tx).mp this.2, (tx u e, iv_ u e 2), by rw [y5]; exact List.mem_map_of_mem this.1, rfl⟩
          · rintro ⟨q1, p, q2, rfl⟩
            rw [y5] at q2
            obtain ⟨e, he, rfl⟩ := List.mem_map.mp q2
            exact ⟨e, (hRl.2 e).mpr ⟨he, (hR _ (y1.en e he).1.Tx).mpr q1⟩, rfl⟩
        · obtain ⟨⟨a0, -⟩, ⟨a1, -⟩, ⟨a2, -⟩, ⟨a3, -⟩, ⟨a4, -⟩, ⟨a5, -⟩, ⟨a6, -⟩, -⟩ := hAX
          have : a = x + 15 ∨ a = x + 16 ∨ a = x + 17 ∨ a = x + 18 ∨ a = x + 19 ∨ a = x + 20 ∨ a = x + 21 := by omega
          rcases this with z | z | z | z | z | z | z <;> (rw [z] at hk; omega)
      · exact absurd rfl c21
    | cons e B ih =>
      intro A w hA hF hz hX hAB
      obtain ⟨hs, hTw, hVw', hKw⟩ := kp w hF
      have he := (hRl.2 e).mp (by rw [hA]; simp)
      have en := y1.en e he.1
      have hE := y6 e he.1
      have e0 := en.ne0 hw
      have enw := hKw.en hw en hE
      have sx := hs x (by omega) (by omega)
      have kxw : kd_ w x = 1 := by rw [sx.1]; exact kx
      have e6w : rv_ w x 6 = x + 15 := by rw [sx.2.2.2]; exact e6
      show Z X 20 [some (aR x), some (aI i), some (aR (rv_ u (x + 3) i)), some (aR e)] [] w 1 6
      refine z_wf (fun hww => ?_)
      refine z_aload_n ho dX1_freeze_20 rfl ?_
      refine z_ifnull (tgt := 42) ho dX1_freeze_21 (by decide) (fun c21 => ?_) (fun c21 => ?_)
      · exact absurd c21 e0
      · have hpw : (A ++ e :: B).Pairwise (fun x y => tx u x < tx u y) := by rw [← hA]; exact hRl.1
        have hlt : ∀ k' ∈ A.map (tx u), k' < tx w e := fun k' hk' => by
          obtain ⟨a, ha, rfl⟩ := List.mem_map.mp hk'
          rw [enw.2.1]
          exact (List.pairwise_append.mp hpw).2.2 a ha e (by simp)
        have hAl : A.length < R.length := by rw [hA]; simp
        refine z_aload_n ho dX1_freeze_24 rfl ?_
        refine gX1_46 ho dX1_freeze_25 kxw ?_
        rw [e6w]
        refine z_aload_n ho dX1_freeze_28 rfl ?_
        refine kX1_226 ho hN (c_aadd _ _ hX enw.1.1 hAB hlt (by rw [List.length_map]; omega)) dX1_freeze_29 hX.1.1 (by omega) (Nat.le_of_ble_eq_true rfl) (by omega) (by omega) (fun u29 h29 => ?_)
        obtain ⟨z1, z2, z3, z4⟩ := h29
        have hF2 := hF.tr z2
        obtain ⟨hs2, hT2, hV2, hK2⟩ := kp u29 hF2
        have hv2 := hV2.1 i.toNat vs hj
        have s3 := hs2 (x + 3) (by omega) (by omega)
        rw [s3.2.2.2, ei] at hv2
        obtain ⟨-, -, ⟨lo2, hi2, hVw2, hR2⟩, -⟩ := hv2
        obtain ⟨x1, x2, x3, x4, x5, x6⟩ := hT2.2.1 vs.1 v2
        have en2 := hK2.en hw en hE
        have sv := hs2 _ hal haV
        have hVw3 : Vw u29 (rv_ u (x + 3) i) (tA x vs.1) lo hi := by
          have ko : ∀ {k : Nat} {o : Option (List Int)}, KyO u k o → (k = 0 ∨ (x + 64 ≤ k ∧ kd_ u k = 2)) → KyO u29 k o := fun {k o} hko hx => by
            rcases hko with z | ⟨z, e⟩
            · exact Or.inl z
            · obtain ⟨y1, y2⟩ := hx.resolve_left (z.lt hw).2.2
              have := hK2.ky hw z y2 y1
              exact Or.inr ⟨this.1, by rw [this.2]; exact e⟩
          exact ⟨by rw [sv.1]; exact hVw.1, by rw [sv.2.2.2]; exact hVw.2.1, by rw [sv.2.2.2]; exact ko hVw.2.2.1 hv.2.2.2.1, by rw [sv.2.2.2]; exact ko hVw.2.2.2 hv.2.2.2.2.1⟩
        have hRl2 : Rl u29 (S vs.1) lo hi (A ++ e :: B) := by
          have ht : ∀ y ∈ S vs.1, tx u29 y = tx u y := fun y hy => (hK2.en hw (y1.en y hy) (y6 y hy)).2.1
          rw [← hA]
          refine ⟨(List.Pairwise.and_mem.mp hRl.1).imp (fun {a b} hab => ?_), fun y => ?_⟩
          · rw [ht a ((hRl.2 a).mp hab.1).1, ht b ((hRl.2 b).mp hab.2.1).1]; exact hab.2.2
          · rw [hRl.2 y]
            constructor
            · rintro ⟨q1, q2⟩; exact ⟨q1, by rw [ht y q1]; exact q2⟩
            · rintro ⟨q1, q2⟩; exact ⟨q1, by rw [ht y q1] at q2; exact q2⟩
        refine z_aload_n ho dX1_freeze_32 rfl ?_
        refine z_aload_n ho dX1_freeze_33 rfl ?_
        refine z_iconst ho dX1_freeze_34 ?_
        refine kX1_209 ho hN (c_up _ _ hVw3 x1 x2 (by omega) (Or.inr en2.1.1) (Or.inr rfl)) dX1_freeze_35 hVw3.1 (by omega) (Nat.le_of_ble_eq_true rfl) (by omega) (by omega) (fun x35 u35 h35 => ?_)
        obtain ⟨rfl, hq⟩ := h35
        refine z_astore_n ho dX1_freeze_38 (Nat.le_of_ble_eq_true rfl) rfl ?_
        refine z_goto (tgt := 20) ho dX1_freeze_39 (by decide) ?_
        rw [up_next hRl2 e0 hq]
        refine ih (A ++ [e]) u29 (by rw [hA]; simp) hF2 (by omega) z4 ?_
        rw [List.map_append, List.map_singleton, ← enw.2.1]
        exact z1
  refine z_aload_n ho dX1_freeze_0 rfl ?_
  refine z_iload_n ho dX1_freeze_1 rfl ?_
  refine kX1_91 ho hN (c_of_ _ _ h.2.1 h0 (by omega)) dX1_freeze_2 kx (by omega) (Nat.le_of_ble_eq_true rfl) (by omega) (by omega) (fun x2 u2 h2 => ?_)
  obtain ⟨rfl, rfl⟩ := h2
  refine z_astore_n ho dX1_freeze_5 (Nat.le_of_ble_eq_true rfl) rfl ?_
  refine z_aload_n ho dX1_freeze_6 rfl ?_
  refine gX1_46 ho dX1_freeze_7 kx ?_
  rw [e6]
  refine kX1_66 ho hN (c_abegin _ _ ka) dX1_freeze_10 ka (by omega) (Nat.le_of_ble_eq_true rfl) (by omega) (by omega) (fun u10 h10 => ?_)
  obtain hq0 := h10
  have hq0 := h10
  have hF0 : Fr (aQ (x + 15) (x + 16) (x + 17) (x + 18) (x + 19) (x + 20) (x + 21)) u u10 := by
    rw [hq0]
    exact ((((Fr.rf _ u).nI (Or.inr (Or.inl rfl))).nI (Or.inr (Or.inl rfl))).nI (Or.inr (Or.inl rfl))).nI (Or.inr (Or.inl rfl))
  have hz0 : sz_ u10 = sz_ u := by rw [hq0]; rfl
  have hX0 : AX u10 (x + 15) (x + 16) (x + 17) (x + 18) (x + 19) (x + 20) (x + 21) := by rw [hq0]; exact hAX
  have hAB0 : AB u10 (x + 15) (x + 16) (x + 17) (x + 18) (x + 19) (x + 20) [] := by
    refine Or.inl ⟨rfl, ?_, ?_, ?_, ?_⟩
    · rw [hq0, iv_wI, if_neg (by omega), iv_wI, if_neg (by omega), iv_wI, if_neg (by omega), iv_wI, if_pos ⟨rfl, rfl⟩]
    · rw [hq0, iv_wI, if_neg (by omega), iv_wI, if_neg (by omega), iv_wI, if_pos ⟨rfl, rfl⟩]
    · rw [hq0, iv_wI, if_pos ⟨rfl, rfl⟩]
    · rw [hq0, iv_wI, if_neg (by omega), iv_wI, if_pos ⟨rfl, rfl⟩]
  obtain ⟨hs2, hT2, hV2, hK2⟩ := kp u10 hF0
  obtain ⟨x1, x2, x3, x4, x5, x6⟩ := hT2.2.1 vs.1 v2
  have sv := hs2 _ hal haV
  have hVw3 : Vw u10 (rv_ u (x + 3) i) (tA x vs.1) lo hi := by
    have ko : ∀ {k : Nat} {o : Option (List Int)}, KyO u k o → (k = 0 ∨ (x + 64 ≤ k ∧ kd_ u k = 2)) → KyO u10 k o := fun {k o} hko hx => by
      rcases hko with z | ⟨z, e⟩
      · exact Or.inl z
      · obtain ⟨y1, y2⟩ := hx.resolve_left (z.lt hw).2.2
        have := hK2.ky hw z y2 y1
        exact Or.inr ⟨this.1, by rw [this.2]; exact e⟩
    exact ⟨by rw [sv.1]; exact hVw.1, by rw [sv.2.2.2]; exact hVw.2.1, by rw [sv.2.2.2]; exact ko hVw.2.2.1 hv.2.2.2.1, by rw [sv.2.2.2]; exact ko hVw.2.2.2 hv.2.2.2.2.1⟩
  have hRl2 : Rl u10 (S vs.1) lo hi R := by
    have ht : ∀ y ∈ S vs.1, tx u10 y = tx u y := fun y hy => (hK2.en hw (y1.en y hy) (y6 y hy)).2.1
    refine ⟨(List.Pairwise.and_mem.mp hRl.1).imp (fun {a b} hab => ?_), fun y => ?_⟩
    · rw [ht a ((hRl.2 a).mp hab.1).1, ht b ((hRl.2 b).mp hab.2.1).1]; exact hab.2.2
    · rw [hRl.2 y]
      constructor
      · rintro ⟨q1, q2⟩; exact ⟨q1, by rw [ht y q1]; exact q2⟩
      · rintro ⟨q1, q2⟩; exact ⟨q1, by rw [ht y q1] at q2; exact q2⟩
  refine z_aload_n ho dX1_freeze_13 rfl ?_
  refine z_null ho dX1_freeze_14 ?_
  refine z_iconst ho dX1_freeze_15 ?_
  refine kX1_209 ho hN (c_up _ _ hVw3 x1 x2 (by omega) (Or.inl rfl) (Or.inl rfl)) dX1_freeze_16 hVw3.1 (by omega) (Nat.le_of_ble_eq_true rfl) (by omega) (by omega) (fun x16 u16 h16 => ?_)
  obtain ⟨rfl, hq⟩ := h16
  refine z_astore_n ho dX1_freeze_19 (Nat.le_of_ble_eq_true rfl) rfl ?_
  rw [up_first hRl2 hq]
  exact key R [] u10 rfl hF0 hz0 hX0 hAB0
theorem t_hfreeze (l : Launch) (hst : l.stackTraces = false) (u : Mem) {x : Nat} {i : Int} {tp fd : List Int} {M : Nat → List KV} {ch : Nat → Int} {VL : List VS} {Ks : List (List Int)} {T : List Int} {Os : List (List Int)} (h : HS u x tp fd M ch VL Ks T Os) (ri : rng i) (hn : ¬ (0 ≤ i ∧ i < VL.length)) : Th_ l yX1_freeze cX1_freeze 4 (some .int) 1104 2 12 [aR x, aI i] u (qTh 19 x u tp fd M ch VL Ks T Os) := by
  have kx := h.2.1.1
  refine Th_of (by decide) (Nat.le_of_ble_eq_true rfl) (fun X ho hT hX hN => ?_)
  subst hX
  show Z X 0 [some (aR x), some (aI i), none, none] [] u 0 0
  refine z_wf (fun hw => ?_)
  refine z_aload_n ho dX1_freeze_0 rfl ?_
  refine z_iload_n ho dX1_freeze_1 rfl ?_
  refine tX1_91 ho hT hN (t_of_ _ hst _ h.2.1 ri hn) dX1_freeze_2 kx (Nat.le_of_ble_eq_true rfl) (Nat.le_of_ble_eq_true rfl) (Nat.le_of_ble_eq_true rfl) (Nat.le_of_ble_eq_true rfl) (fun x2 u2 h2 => ?_)
  exact qTh_ex h hw h2
