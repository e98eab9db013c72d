set_option maxRecDepth 100000
/-! ===== KeyHallModel: what its cells hold ===== -/
/-- fields fs and arrays as may change -/
def Cg (m : Nat) (u v : Mem) (fs : List Int) (as : List Nat) : Prop := Im m u v ∧ (∀ k : Int, k ∉ fs → iv_ v m k = iv_ u m k) ∧ ∀ j : Nat, 1 ≤ j → j ∉ as → iv_ v (m + j) = iv_ u (m + j)
theorem Cg.rf (m : Nat) (u : Mem) (fs : List Int) (as : List Nat) : Cg m u u fs as := ⟨Im.rf m u, fun _ _ => rfl, fun _ _ _ => rfl⟩
theorem Cg.f {m : Nat} {u v : Mem} {fs : List Int} {as : List Nat} (h : Cg m u v fs as) (k x : Int) (hk : k ∈ fs) : Cg m u (wI_ v m k x) fs as := ⟨h.1.w0 k x, fun i hi => by rw [iv_wI, if_neg (show ¬ (m = m ∧ i = k) from fun z => hi (by rw [z.2]; exact hk))]; exact h.2.1 i hi, fun j h1 h2 => by rw [ivf (by omega)]; exact h.2.2 j h1 h2⟩
theorem Cg.a {m : Nat} {u v : Mem} {fs : List Int} {as : List Nat} (h : Cg m u v fs as) (j : Nat) (k x : Int) (hj : j ∈ as) (h1 : 1 ≤ j) (h29 : j < 29) : Cg m u (wI_ v (m + j) k x) fs as := ⟨h.1.w j h29 k x, fun i hi => by rw [iv_wI, if_neg (by omega)]; exact h.2.1 i hi, fun i q1 q2 => by rw [ivf (fun z => q2 (by rw [show i = j by omega]; exact hj))]; exact h.2.2 i q1 q2⟩
theorem Cg.tr {m : Nat} {u v w : Mem} {fs : List Int} {as : List Nat} (h : Cg m u v fs as) (g : Cg m v w fs as) : Cg m u w fs as := ⟨h.1.tr g.1, fun k hk => (g.2.1 k hk).trans (h.2.1 k hk), fun j h1 h2 => (g.2.2 j h1 h2).trans (h.2.2 j h1 h2)⟩
theorem Cg.mono {m : Nat} {u v : Mem} {fs fs' : List Int} {as as' : List Nat} (h : Cg m u v fs as) (h1 : ∀ k ∈ fs, k ∈ fs') (h2 : ∀ j ∈ as, j ∈ as') : Cg m u v fs' as' := ⟨h.1, fun k hk => h.2.1 k (fun z => hk (h1 k z)), fun j q1 q2 => h.2.2 j q1 (fun z => q2 (h2 j z))⟩
/-- a text of the model: its array, its length -/
def MT (f : Int → Int) (n : Int) (s : List Int) : Prop := n = (s.length : Int) ∧ sub_ f 0 s.length = s ∧ Tx s
def MTp (u : Mem) (m : Nat) (tp : List Int) : Prop := MT (iv_ u (m + 1)) (iv_ u m 2) tp
def MFd (u : Mem) (m : Nat) (fd : List Int) : Prop := MT (iv_ u (m + 17)) (iv_ u m 20) fd
/-- the iterators -/
def MIt (u : Mem) (m : Nat) (VL : List VS) : Prop := (∀ (j : Nat) vs, VL[j]? = some vs → (iv_ u (m + 11) (j : Int) = vs.2.2.2.1 ∧ (vs.2.2.2.1 = 0 ∨ vs.2.2.2.1 = 1)) ∧ (iv_ u (m + 14) (j : Int) = vs.2.2.2.2.1 ∧ rng vs.2.2.2.2.1) ∧ ((iv_ u (m + 12) (j : Int) = 0 ∧ vs.2.2.2.2.2.1 = none) ∨ (iv_ u (m + 12) (j : Int) = 1 ∧ ∃ t, vs.2.2.2.2.2.1 = some t ∧ iv_ u (m + 15) (j : Int) = (t.length : Int) ∧ sub_ (iv_ u (m + 16)) (8 * (j : Int)) t.length = t ∧ Tx t)) ∧ (iv_ u (m + 13) (j : Int) = vs.2.2.2.2.2.2 ∧ (vs.2.2.2.2.2.2 = 0 ∨ vs.2.2.2.2.2.2 = 1))) ∧ ∀ j : Nat, VL.length ≤ j → j < 12 → iv_ u (m + 11) (j : Int) = 0 ∧ iv_ u (m + 12) (j : Int) = 0 ∧ iv_ u (m + 13) (j : Int) = 0 ∧ iv_ u (m + 14) (j : Int) = 0
/-- the automaton: a state for each class, steps -/
def MAu (n sp sr : Int) (fi sf sc st : Int → Int) (Ks : List (List Int)) : Prop := (Ks = [] ∧ n = 0 ∧ sp = 0) ∨ (Ks ≠ [] ∧ ∃ (RL : List (List Int → Prop)) (SL : List (Nat × Int × Nat)), Cls Ks RL ∧ n = (RL.length : Int) ∧ RL.length ≤ 580 ∧ sp = (SL.length : Int) ∧ SL.length ≤ 580 ∧ SL.Nodup ∧ (∃ s0 : Nat, sr = (s0 : Int) ∧ RL[s0]? = some (res Ks [])) ∧ (∀ (j : Nat) R, RL[j]? = some R → (fi (j : Int) = 1 ∧ R []) ∨ (fi (j : Int) = 0 ∧ ¬ R [])) ∧ (∀ (j : Nat) q, SL[j]? = some q → sf (j : Int) = (q.1 : Int) ∧ sc (j : Int) = q.2.1 ∧ st (j : Int) = (q.2.2 : Int) ∧ 0 ≤ q.2.1 ∧ q.2.1 < 65536) ∧ ∀ (s : Nat) (c : Int) (t : Nat), (s, c, t) ∈ SL ↔ ∃ R, RL[s]? = some R ∧ (∃ w, R (c :: w)) ∧ RL[t]? = some (fun w => R (c :: w)))
def MAt (u : Mem) (m : Nat) (Ks : List (List Int)) : Prop := MAu (iv_ u m 26) (iv_ u m 27) (iv_ u m 28) (iv_ u (m + 22)) (iv_ u (m + 23)) (iv_ u (m + 24)) (iv_ u (m + 25)) Ks
/-- the text and the texts ahead of the edits -/
def MTt (u : Mem) (m : Nat) (N : Nat) (T : List Int) (Os : List (List Int)) : Prop := (iv_ u m 34 = (T.length : Int) ∧ sub_ (iv_ u (m + 26)) 0 T.length = T ∧ T.length ≤ 120 ∧ ∀ c ∈ T, 0 ≤ c ∧ c < 65536) ∧ (iv_ u m 38 = (Os.length : Int) ∧ Os.length ≤ 20 ∧ (Os.length : Int) ≤ iv_ u m 37 ∧ iv_ u m 37 ≤ N ∧ N ≤ 1000) ∧ ∀ (j : Nat) O, Os[j]? = some O → iv_ u (m + 28) ((iv_ u m 37 - Os.length + j) % 21) = (O.length : Int) ∧ sub_ (iv_ u (m + 27)) (120 * ((iv_ u m 37 - Os.length + j) % 21)) O.length = O ∧ O.length ≤ 120 ∧ ∀ c ∈ O, 0 ≤ c ∧ c < 65536
/-- the model -/
def MS (u : Mem) (m : Nat) (N : Nat) (tp fd : List Int) (M : Nat → List KV) (ch : Nat → Int) (VL : List VS) (Ks : List (List Int)) (T : List Int) (Os : List (List Int)) : Prop := MF u m ∧ MTp u m tp ∧ MFd u m fd ∧ MM u m M ch ∧ MV u m VL ∧ MIt u m VL ∧ MAt u m Ks ∧ MTt u m N T Os ∧ ∀ i, i < 3 → rng (ch i)
/-! what stays -/
theorem MTp.cg {m : Nat} {u v : Mem} {fs : List Int} {as : List Nat} {tp : List Int} (h : MTp u m tp) (c : Cg m u v fs as) (h1 : (2 : Int) ∉ fs) (h2 : 1 ∉ as) : MTp v m tp := by unfold MTp; rw [c.2.1 2 h1, c.2.2 1 (by decide) h2]; exact h
theorem MFd.cg {m : Nat} {u v : Mem} {fs : List Int} {as : List Nat} {fd : List Int} (h : MFd u m fd) (c : Cg m u v fs as) (h1 : (20 : Int) ∉ fs) (h2 : 17 ∉ as) : MFd v m fd := by unfold MFd; rw [c.2.1 20 h1, c.2.2 17 (by decide) h2]; exact h
theorem MM.cg {m : Nat} {u v : Mem} {fs : List Int} {as : List Nat} {M : Nat → List KV} {ch : Nat → Int} (h : MM u m M ch) (c : Cg m u v fs as) (h2 : ∀ j ∈ [2, 3, 4, 5, 6], j ∉ as) : MM v m M ch := by
  unfold MM
  rw [c.2.2 4 (by decide) (h2 4 (by decide)), c.2.2 5 (by decide) (h2 5 (by decide)), c.2.2 6 (by decide) (h2 6 (by decide)), c.2.2 2 (by decide) (h2 2 (by decide)), c.2.2 3 (by decide) (h2 3 (by decide))]
  exact h
theorem MV.cg {m : Nat} {u v : Mem} {fs : List Int} {as : List Nat} {VL : List VS} (h : MV u m VL) (c : Cg m u v fs as) (h1 : (8 : Int) ∉ fs) (h2 : ∀ j ∈ [7, 8, 9, 10], j ∉ as) : MV v m VL := by
  unfold MV
  rw [c.2.1 8 h1, c.2.2 7 (by decide) (h2 7 (by decide)), c.2.2 8 (by decide) (h2 8 (by decide)), c.2.2 9 (by decide) (h2 9 (by decide)), c.2.2 10 (by decide) (h2 10 (by decide))]
  exact h
theorem MIt.cg {m : Nat} {u v : Mem} {fs : List Int} {as : List Nat} {VL : List VS} (h : MIt u m VL) (c : Cg m u v fs as) (h2 : ∀ j ∈ [11, 12, 13, 14, 15, 16], j ∉ as) : MIt v m VL := by
  unfold MIt
  rw [c.2.2 11 (by decide) (h2 11 (by decide)), c.2.2 12 (by decide) (h2 12 (by decide)), c.2.2 13 (by decide) (h2 13 (by decide)), c.2.2 14 (by decide) (h2 14 (by decide)), c.2.2 15 (by decide) (h2 15 (by decide)), c.2.2 16 (by decide) (h2 16 (by decide))]
  exact h
theorem MAt.cg {m : Nat} {u v : Mem} {fs : List Int} {as : List Nat} {Ks : List (List Int)} (h : MAt u m Ks) (c : Cg m u v fs as) (h1 : ∀ k ∈ ([26, 27, 28] : List Int), k ∉ fs) (h2 : ∀ j ∈ [22, 23, 24, 25], j ∉ as) : MAt v m Ks := by
  unfold MAt
  rw [c.2.1 26 (h1 26 (by decide)), c.2.1 27 (h1 27 (by decide)), c.2.1 28 (h1 28 (by decide)), c.2.2 22 (by decide) (h2 22 (by decide)), c.2.2 23 (by decide) (h2 23 (by decide)), c.2.2 24 (by decide) (h2 24 (by decide)), c.2.2 25 (by decide) (h2 25 (by decide))]
  exact h
theorem MTt.cg {m N : Nat} {u v : Mem} {fs : List Int} {as : List Nat} {T : List Int} {Os : List (List Int)} (h : MTt u m N T Os) (c : Cg m u v fs as) (h1 : ∀ k ∈ ([34, 37, 38] : List Int), k ∉ fs) (h2 : ∀ j ∈ [26, 27, 28], j ∉ as) : MTt v m N T Os := by
  unfold MTt
  rw [c.2.1 34 (h1 34 (by decide)), c.2.1 37 (h1 37 (by decide)), c.2.1 38 (h1 38 (by decide)), c.2.2 26 (by decide) (h2 26 (by decide)), c.2.2 27 (by decide) (h2 27 (by decide)), c.2.2 28 (by decide) (h2 28 (by decide))]
  exact h
theorem MTp.nil {m : Nat} {u : Mem} (h : iv_ u m 2 = 0) : MTp u m [] := ⟨h, rfl, by decide, fun c hc => by simp at hc⟩
/-- only the code and the tape's length may change -/
theorem MS.cgc {m N : Nat} {u v : Mem} {tp fd : List Int} {M : Nat → List KV} {ch : Nat → Int} {VL : List VS} {Ks : List (List Int)} {T : List Int} {Os : List (List Int)} (h : MS u m N tp fd M ch VL Ks T Os) (c : Cg m u v [0, 22] [18, 19, 20, 21]) : MS v m N tp fd M ch VL Ks T Os := by
  obtain ⟨h1, h2, h3, h4, h5, h6, h7, h8, h9⟩ := h
  exact ⟨h1.im c.1, h2.cg c (by decide) (by decide), h3.cg c (by decide) (by decide), h4.cg c (by decide), h5.cg c (by decide) (by decide), h6.cg c (by decide), h7.cg c (by decide) (by decide), h8.cg c (by decide) (by decide), h9⟩
theorem MS.cgt {m N : Nat} {u v : Mem} {tp fd : List Int} {M : Nat → List KV} {ch : Nat → Int} {VL : List VS} {Ks : List (List Int)} {T : List Int} {Os : List (List Int)} (h : MS u m N tp fd M ch VL Ks T Os) (c : Cg m u v [0, 2, 22] [18, 19, 20, 21]) (h0 : iv_ v m 2 = 0) : MS v m N [] fd M ch VL Ks T Os := by
  obtain ⟨h1, h2, h3, h4, h5, h6, h7, h8, h9⟩ := h
  exact ⟨h1.im c.1, MTp.nil h0, h3.cg c (by decide) (by decide), h4.cg c (by decide), h5.cg c (by decide) (by decide), h6.cg c (by decide), h7.cg c (by decide) (by decide), h8.cg c (by decide) (by decide), h9⟩
theorem MTp.ta {m : Nat} {u : Mem} {tp : List Int} (h : MTp u m tp) (hm : MF u m) : TA u (m + 1) 0 tp := ⟨hm.k1, by decide, by rw [hm.l1]; have := h.2.2.1; omega, h.2.1, by have := h.2.2.1; omega, h.2.2.2⟩
/-- what a public method of the model leaves -/
def qM (m N : Nat) (u : Mem) (code : Int) (tp fd : List Int) (M : Nat → List KV) (ch : Nat → Int) (VL : List VS) (Ks : List (List Int)) (T : List Int) (Os : List (List Int)) (v : Mem) : Prop := Im m u v ∧ iv_ v m 0 = code ∧ MS v m N tp fd M ch VL Ks T Os
theorem c_thrown (l : Launch) (u : Mem) {m : Nat} (hm : MF u m) : Mt_ l yX13_thrown cX13_thrown 1 (some .int) 0 0 0 [aR m] u (qI fun r v => u = v ∧ r = iv_ u m 0) := by
  refine Mt_of (by decide) (Nat.le_of_ble_eq_true rfl) (fun X ho hX hN hI => ?_)
  subst hX
  show Z X 0 [some (aR m)] [] u 0 0
  refine z_aload_n ho dX13_thrown_0 rfl ?_
  refine gX13_99 ho dX13_thrown_1 hm.1 ?_
  refine r_I ho dX13_thrown_4 (Nat.le_of_ble_eq_true rfl) (Nat.le_of_ble_eq_true rfl) ?_
  exact ⟨rfl, rfl⟩
/-- isView, then an exception -/
theorem qM_raise {m N : Nat} {u : Mem} {k : Int} {tp fd : List Int} {M : Nat → List KV} {ch : Nat → Int} {VL : List VS} {Ks : List (List Int)} {T : List Int} {Os : List (List Int)} (h : MS u m N tp fd M ch VL Ks T Os) : qM m N u k tp fd M ch VL Ks T Os (wI_ u m 0 k) := ⟨(Im.rf m u).w0 0 k, by rw [iv_wI, if_pos ⟨rfl, rfl⟩], h.cgc ((Cg.rf m u _ _).f 0 k (by decide))⟩
theorem qM_raise2 {m N : Nat} {u : Mem} {k : Int} {tp fd : List Int} {M : Nat → List KV} {ch : Nat → Int} {VL : List VS} {Ks : List (List Int)} {T : List Int} {Os : List (List Int)} (h : MS u m N tp fd M ch VL Ks T Os) : qM m N u k [] fd M ch VL Ks T Os (wI_ (wI_ u m 2 0) m 0 k) := ⟨((Im.rf m u).w0 2 0).w0 0 k, by rw [iv_wI, if_pos ⟨rfl, rfl⟩], h.cgt (((Cg.rf m u _ _).f 2 0 (by decide)).f 0 k (by decide)) (by rw [iv_wI, if_neg (by omega), iv_wI, if_pos ⟨rfl, rfl⟩])⟩
theorem c_mtype (l : Launch) (u : Mem) {m N : Nat} {W : Int64} {n : Int} {tp fd : List Int} {M : Nat → List KV} {ch : Nat → Int} {VL : List VS} {Ks : List (List Int)} {T : List Int} {Os : List (List Int)} (h : MS u m N tp fd M ch VL Ks T Os) (rn : rng n) :
    Mt_ l yX13_type cX13_type 5 (some .boolean) 0 0 0 [aR m, aL W, aI n] u (qI fun r v => (¬ (1 ≤ n ∧ n ≤ 4 ∧ (tp.length : Int) + n ≤ 8) ∧ r = 0 ∧ qM m N u 0 tp fd M ch VL Ks T Os v) ∨ (1 ≤ n ∧ n ≤ 4 ∧ (tp.length : Int) + n ≤ 8 ∧ r = 1 ∧ qM m N u 0 (tp ++ typd W n.toNat) fd M ch VL Ks T Os v)) := by
  have hm := h.1
  have h2 := h.2.1.1
  have hl8 := h.2.1.2.2.1
  refine Mt_of (by decide) (Nat.le_of_ble_eq_true rfl) (fun X ho hX hN hI => ?_)
  subst hX
  show Z X 0 [some (aR m), some (aL W), none, some (aI n), none] [] u 0 0
  have key : 1 ≤ n → n ≤ 4 → (tp.length : Int) + n ≤ 8 → ∀ (q : Nat) (A : List Int) (w : Mem), A ++ typd W q = typd W n.toNat → Cg m u w [0, 2] [1] → MTp w m (tp ++ A) → iv_ w m 0 = 0 → Z X 33 [some (aR m), some (aL W), none, some (aI n), some (aI ((q : Int) - 1))] [] w 0 0 := by
    intro n1 n4 n8 q
    induction q with
    | zero =>
      intro A w hA hc ht h0
      refine z_iload ho dX13_type_33 rfl ?_
      refine z_if_lt (tgt := 74) ho dX13_type_35 (by decide) (by unfold rng; omega) (fun c35 => ?_) (fun c35 => ?_)
      · 
        refine z_iconst ho dX13_type_74 ?_
        refine r_Z ho dX13_type_75 (Nat.le_of_ble_eq_true rfl) (Nat.le_of_ble_eq_true rfl) ?_ ?_
        · exact Or.inr rfl
        · rw [typd, List.append_nil] at hA
          rw [hA] at ht
          obtain ⟨h1, -, h3, h4, h5, h6, h7, h8, h9⟩ := h
          exact Or.inr ⟨n1, n4, n8, rfl, hc.1, h0, h1.im hc.1, ht, h3.cg hc (by decide) (by decide), h4.cg hc (by decide), h5.cg hc (by decide) (by decide), h6.cg hc (by decide), h7.cg hc (by decide) (by decide), h8.cg hc (by decide) (by decide), h9⟩
      · omega
    | succ q ih =>
      intro A w hA hc ht h0
      have hlA : A.length + (q + 1) = n.toNat := by have := congrArg List.length hA; rwa [List.length_append, typd_len, typd_len] at this
      have hm := h.1.im hc.1
      have e2 := ht.1
      rw [List.length_append] at e2
      obtain ⟨c1, c2⟩ := chW_r W q
      rw [show ((q + 1 : Nat) : Int) - 1 = (q : Int) by omega]
      refine z_iload ho dX13_type_33 rfl ?_
      refine z_if_lt (tgt := 74) ho dX13_type_35 (by decide) (by unfold rng; omega) (fun c35 => ?_) (fun c35 => ?_)
      · omega
      · 
        refine z_aload_n ho dX13_type_38 rfl ?_
        refine gX13_7 ho dX13_type_39 hm.1 (mget hm.r1 ?_)
        refine z_aload_n ho dX13_type_42 rfl ?_
        refine gX13_102 ho dX13_type_43 hm.1 ?_
        refine z_lload_n ho dX13_type_46 rfl ?_
        refine z_bipush ho dX13_type_47 rfl ?_
        refine z_iload ho dX13_type_49 rfl ?_
        refine z_imul ho dX13_type_51 ?_
        refine z_lshr ho dX13_type_52 ?_
        refine z_l2i ho dX13_type_53 ?_
        refine z_ldc ho q1404 dX13_type_54 (x := 65535) rfl ?_
        refine z_iand ho 16 (by decide) dX13_type_56 (by decide) ?_
        refine z_iast ho dX13_type_57 hm.k1 (by omega) (hm.t1 (by omega)) ?_
        refine z_aload_n ho dX13_type_58 rfl ?_
        refine z_dup ho dX13_type_59 rfl ?_
        refine gX13_102 ho dX13_type_60 hm.1 ?_
        refine z_iconst ho dX13_type_63 ?_
        refine z_iadd ho dX13_type_64 ?_
        refine pX13_102 ho dX13_type_65 hm.1  ?_
        refine z_iinc ho dX13_type_68 rfl rfl ?_
        refine z_goto (tgt := 33) ho dX13_type_71 (by decide) ?_
        have ev : iv_ (wI_ w (m + 1) (iv_ w m 2) (chW W q)) m 2 = iv_ w m 2 := by rw [iv_wI, if_neg (by omega)]
        show Z X 33 _ _ (wI_ (wI_ w (m + 1) (iv_ w m 2) (chW W q)) m 2 (iv_ (wI_ w (m + 1) (iv_ w m 2) (chW W q)) m 2 + 1)) 0 0
        rw [ev]
        refine ih (A ++ [chW W q]) _ (by rw [← hA, typd, List.append_assoc]; rfl) ((hc.a 1 _ _ (by decide) (by decide) (by decide)).f 2 _ (by decide)) ?_ (by rw [iv_wI, if_neg (by omega), iv_wI, if_neg (by omega)]; exact h0)
        rw [← List.append_assoc]
        refine ⟨by rw [iv_wI, if_pos ⟨rfl, rfl⟩, e2, List.length_append, List.length_append]; rfl, ?_, ?_⟩
        · rw [List.length_append, List.length_singleton, sub_snoc, ivf (by omega)]
          have el : ((tp ++ A).length : Int) = iv_ w m 2 := by rw [e2, List.length_append]
          congr 1
          · conv => rhs; rw [← ht.2.1]
            refine sub_ext (fun j j0 j1 => ?_)
            rw [iv_wI, if_neg (by omega)]
          · rw [iv_wI, if_pos ⟨rfl, by omega⟩]
        · obtain ⟨t1, t2⟩ := ht.2.2
          refine ⟨by rw [List.length_append, List.length_append]; simp; omega, fun c hc => ?_⟩
          rcases List.mem_append.mp hc with z | z
          · exact t2 c z
          · rw [List.mem_singleton.mp z]; exact ⟨c1, c2⟩
  have c0 : Cg m u (wI_ u m 0 0) [0, 2] [1] := (Cg.rf m u _ _).f 0 0 (by decide)
  have z0 : iv_ (wI_ u m 0 0) m 0 = 0 := by rw [iv_wI, if_pos ⟨rfl, rfl⟩]
  have z2 : iv_ (wI_ u m 0 0) m 2 = (tp.length : Int) := by rw [iv_wI, if_neg (by omega)]; exact h2
  have no : ¬ (1 ≤ n ∧ n ≤ 4 ∧ (tp.length : Int) + n ≤ 8) → Z X 26 [some (aR m), some (aL W), none, some (aI n), none] [] (wI_ u m 0 0) 0 0 := fun hn => by
    refine z_iconst ho dX13_type_26 ?_
    refine r_Z ho dX13_type_27 (Nat.le_of_ble_eq_true rfl) (Nat.le_of_ble_eq_true rfl) ?_ ?_
    · exact Or.inl rfl
    · exact Or.inl ⟨hn, rfl, qM_raise h⟩
  refine z_aload_n ho dX13_type_0 rfl ?_
  refine z_iconst ho dX13_type_1 ?_
  refine pX13_99 ho dX13_type_2 hm.1  ?_
  refine z_iload_n ho dX13_type_5 rfl ?_
  refine z_iconst ho dX13_type_6 ?_
  refine z_icmp_lt (tgt := 26) ho dX13_type_7 (by decide) rn (by unfold rng; omega) (fun c7 => ?_) (fun c7 => ?_)
  · exact no (by omega)
  · 
    refine z_iload_n ho dX13_type_10 rfl ?_
    refine z_iconst ho dX13_type_11 ?_
    refine z_icmp_gt (tgt := 26) ho dX13_type_12 (by decide) rn (by unfold rng; omega) (fun c12 => ?_) (fun c12 => ?_)
    · exact no (by omega)
    · 
      refine z_aload_n ho dX13_type_15 rfl ?_
      refine gX13_102 ho dX13_type_16 hm.1 ?_
      refine z_iload_n ho dX13_type_19 rfl ?_
      refine z_iadd ho dX13_type_20 ?_
      refine z_bipush ho dX13_type_21 rfl ?_
      refine z_icmp_le (tgt := 28) ho dX13_type_23 (by decide) (by rw [z2]; unfold rng; omega) (by unfold rng; omega) (fun c23 => ?_) (fun c23 => ?_)
      · rw [z2] at c23
        refine z_iload_n ho dX13_type_28 rfl ?_
        refine z_iconst ho dX13_type_29 ?_
        refine z_isub ho dX13_type_30 ?_
        refine z_istore ho dX13_type_31 (Nat.le_of_ble_eq_true rfl) rfl ?_
        have := key (by omega) (by omega) (by omega) n.toNat [] (wI_ u m 0 0) rfl c0 (by rw [List.append_nil]; exact h.2.1.cg (fs := [0]) (as := []) ((Cg.rf m u _ _).f 0 0 (by decide)) (by decide) (by decide)) z0
        rw [show ((n.toNat : Nat) : Int) = n by omega] at this
        exact this
      · rw [z2] at c23
        exact no (by omega)
/-! ===== keys of a view ===== -/
theorem c_used (l : Launch) (u : Mem) {m N j : Nat} {tp fd : List Int} {M : Nat → List KV} {ch : Nat → Int} {VL : List VS} {Ks : List (List Int)} {T : List Int} {Os : List (List Int)} {vs : VS} (h : MS u m N tp fd M ch VL Ks T Os) (hj : VL[j]? = some vs) : Mt_ l yX13_used cX13_used 3 (some .int) 3 0 0 [aR m, aI (j : Int)] u (qI fun r v => v = wI_ u m 2 0 ∧ ((r = -1 ∧ (¬ vs.2.1 tp ∨ ∀ p ∈ M vs.1, p.1 ≠ tp)) ∨ (vs.2.1 tp ∧ ∃ (k : Nat) (p : KV), (M vs.1)[k]? = some p ∧ p.1 = tp ∧ r = 64 * (vs.1 : Int) + (k : Int)))) := by
  have hm := h.1
  have h2 := h.2.1.1
  have v3 := (h.2.2.2.2.1.2.2 j vs hj).1
  have c0 : Cg m u (wI_ u m 2 0) [2] [] := (Cg.rf m u _ _).f 2 0 (by decide)
  have ta : TA (wI_ u m 2 0) (m + 1) 0 tp := by
    have := h.2.1.ta hm
    obtain ⟨q1, q2, q3, q4, q5, q6⟩ := this
    exact ⟨q1, q2, q3, by rw [ivf (by omega)]; exact q4, q5, q6⟩
  have hV := h.2.2.2.2.1.cg c0 (by decide) (by decide)
  have hK := h.2.2.2.1.cg c0 (by decide)
  refine Mt_of (by decide) (Nat.le_of_ble_eq_true rfl) (fun X ho hX hN hI => ?_)
  subst hX
  show Z X 0 [some (aR m), some (aI  (j : Int)), none] [] u 0 0
  refine z_aload_n ho dX13_used_0 rfl ?_
  refine gX13_102 ho dX13_used_1 hm.1 ?_
  refine z_istore_n ho dX13_used_4 (Nat.le_of_ble_eq_true rfl) rfl ?_
  rw [h2]
  refine z_aload_n ho dX13_used_5 rfl ?_
  refine z_iconst ho dX13_used_6 ?_
  refine pX13_102 ho dX13_used_7 hm.1  ?_
  refine z_aload_n ho dX13_used_10 rfl ?_
  refine z_iload_n ho dX13_used_11 rfl ?_
  refine z_aload_n ho dX13_used_12 rfl ?_
  refine gX13_7 ho dX13_used_13 hm.1 (mget hm.r1 ?_)
  refine z_iconst ho dX13_used_16 ?_
  refine z_iload_n ho dX13_used_17 rfl ?_
  refine kX13_118 ho hN (c_within _ _ hm hV hj ta) dX13_used_18 hm.1 (Nat.le_of_ble_eq_true rfl) (Nat.le_of_ble_eq_true rfl) (Nat.le_of_ble_eq_true rfl) (Nat.le_of_ble_eq_true rfl) (fun x18 u18 h18 => ?_)
  obtain ⟨rfl, hs⟩ := h18
  refine z_if_eq (tgt := 42) ho dX13_used_21 (by decide) (by rcases hs with ⟨z, -⟩ | ⟨z, -⟩ <;> rw [z] <;> unfold rng <;> omega) (fun c21 => ?_) (fun c21 => ?_)
  · 
    refine z_iconst ho dX13_used_42 ?_
    refine r_I ho dX13_used_43 (Nat.le_of_ble_eq_true rfl) (Nat.le_of_ble_eq_true rfl) ?_
    refine ⟨rfl, Or.inl ⟨rfl, Or.inl ?_⟩⟩
    rcases hs with ⟨z, -⟩ | ⟨-, z⟩
    · omega
    · exact z
  · have hin : vs.2.1 tp := by
      rcases hs with ⟨-, z⟩ | ⟨z, -⟩
      · exact z
      · exact absurd z c21
    refine z_aload_n ho dX13_used_24 rfl ?_
    refine z_aload_n ho dX13_used_25 rfl ?_
    refine z_iload_n ho dX13_used_26 rfl ?_
    refine kX13_114 ho hN (c_mapOf _ _ hm hV hj) dX13_used_27 hm.1 (Nat.le_of_ble_eq_true rfl) (Nat.le_of_ble_eq_true rfl) (Nat.le_of_ble_eq_true rfl) (Nat.le_of_ble_eq_true rfl) (fun x27 u27 h27 => ?_)
    obtain ⟨rfl, rfl⟩ := h27
    refine z_aload_n ho dX13_used_30 rfl ?_
    refine gX13_7 ho dX13_used_31 hm.1 (mget hm.r1 ?_)
    refine z_iconst ho dX13_used_34 ?_
    refine z_iload_n ho dX13_used_35 rfl ?_
    refine kX13_133 ho hN (c_keyOf _ _ hm hK v3 ta) dX13_used_36 hm.1 (Nat.le_of_ble_eq_true rfl) (Nat.le_of_ble_eq_true rfl) (Nat.le_of_ble_eq_true rfl) (Nat.le_of_ble_eq_true rfl) (fun x36 u36 h36 => ?_)
    obtain ⟨rfl, hk⟩ := h36
    refine z_goto (tgt := 43) ho dX13_used_39 (by decide) ?_
    refine r_I ho dX13_used_43 (Nat.le_of_ble_eq_true rfl) (Nat.le_of_ble_eq_true rfl) ?_
    refine ⟨rfl, ?_⟩
    rcases hk with ⟨z1, z2⟩ | ⟨k, p, z1, z2, z3⟩
    · exact Or.inl ⟨z1, Or.inr z2⟩
    · exact Or.inr ⟨hin, k, p, z1, z2, z3⟩
theorem c_mget (l : Launch) (u : Mem) {m N : Nat} {i : Int} {tp fd : List Int} {M : Nat → List KV} {ch : Nat → Int} {VL : List VS} {Ks : List (List Int)} {T : List Int} {Os : List (List Int)} (h : MS u m N tp fd M ch VL Ks T Os) (ri : rng i) :
    Mt_ l yX13_get cX13_get 3 (some .int) 4 0 0 [aR m, aI i] u (qI fun r v => (¬ (0 ≤ i ∧ i < VL.length) ∧ qM m N u 1 tp fd M ch VL Ks T Os v) ∨ (∃ vs, 0 ≤ i ∧ VL[i.toNat]? = some vs ∧ qM m N u 0 [] fd M ch VL Ks T Os v ∧ (((¬ vs.2.1 tp ∨ ∀ p ∈ M vs.1, p.1 ≠ tp) ∧ r = -1) ∨ (vs.2.1 tp ∧ (tp, r) ∈ M vs.1)))) := by
  have hm := h.1
  refine Mt_of (by decide) (Nat.le_of_ble_eq_true rfl) (fun X ho hX hN hI => ?_)
  subst hX
  show Z X 0 [some (aR m), some (aI i), none] [] u 0 0
  refine z_aload_n ho dX13_get_0 rfl ?_
  refine z_iload_n ho dX13_get_1 rfl ?_
  refine kX13_122 ho hN (c_isView _ _ hm h.2.2.2.2.1.1 h.2.2.2.2.1.2.1 ri) dX13_get_2 hm.1 (Nat.le_of_ble_eq_true rfl) (Nat.le_of_ble_eq_true rfl) (Nat.le_of_ble_eq_true rfl) (Nat.le_of_ble_eq_true rfl) (fun x2 u2 h2 => ?_)
  obtain ⟨rfl, hs⟩ := h2
  refine z_if_ne (tgt := 14) ho dX13_get_5 (by decide) (by rcases hs with ⟨z, -⟩ | ⟨z, -⟩ <;> rw [z] <;> unfold rng <;> omega) (fun c5 => ?_) (fun c5 => ?_)
  · have hin := (hs.resolve_right (fun z => c5 z.1)).2
    have hvs : VL[i.toNat]? = some VL[i.toNat] := List.getElem?_eq_getElem (by omega)
    generalize VL[i.toNat] = vs at hvs
    have ei : (i.toNat : Int) = i := Int.toNat_of_nonneg hin.1
    have v3 := (h.2.2.2.2.1.2.2 _ vs hvs).1
    have H0 := h.cgc (v := wI_ u m 0 0) ((Cg.rf m u _ _).f 0 0 (by decide))
    have hu := c_used (La_ X) (wI_ u m 0 0) H0 hvs
    rw [ei] at hu
    refine z_aload_n ho dX13_get_14 rfl ?_
    refine z_iconst ho dX13_get_15 ?_
    refine pX13_99 ho dX13_get_16 hm.1  ?_
    refine z_aload_n ho dX13_get_19 rfl ?_
    refine z_iload_n ho dX13_get_20 rfl ?_
    refine kX13_136 ho hN (hu) dX13_get_21 hm.1 (Nat.le_of_ble_eq_true rfl) (Nat.le_of_ble_eq_true rfl) (Nat.le_of_ble_eq_true rfl) (Nat.le_of_ble_eq_true rfl) (fun x21 u21 h21 => ?_)
    obtain ⟨rfl, hr⟩ := h21
    have HQ : qM m N u 0 [] fd M ch VL Ks T Os (wI_ (wI_ u m 0 0) m 2 0) := ⟨((Im.rf m u).w0 0 0).w0 2 0, by rw [iv_wI, if_neg (by omega), iv_wI, if_pos ⟨rfl, rfl⟩], h.cgt (((Cg.rf m u _ _).f 0 0 (by decide)).f 2 0 (by decide)) (by rw [iv_wI, if_pos ⟨rfl, rfl⟩])⟩
    rcases hr with ⟨z1, z2⟩ | ⟨z1, k, p, z2, z3, z4⟩
    · subst z1
      refine z_istore_n ho dX13_get_24 (Nat.le_of_ble_eq_true rfl) rfl ?_
      refine z_iload_n ho dX13_get_25 rfl ?_
      refine z_iconst ho dX13_get_26 ?_
      refine z_icmp_ne (tgt := 34) ho dX13_get_27 (by decide) (by unfold rng; omega) (by unfold rng; omega) (fun c27 => ?_) (fun c27 => ?_)
      · exact absurd rfl c27
      · 
        refine z_iconst ho dX13_get_30 ?_
        refine z_goto (tgt := 40) ho dX13_get_31 (by decide) ?_
        refine r_I ho dX13_get_40 (Nat.le_of_ble_eq_true rfl) (Nat.le_of_ble_eq_true rfl) ?_
        exact Or.inr ⟨vs, hin.1, hvs, HQ, Or.inl ⟨z2, rfl⟩⟩
    · obtain ⟨q1, q2, q3, q4, q5, q6⟩ := HQ.2.2.2.2.2.1.key hm v3 z2
      subst z4
      refine z_istore_n ho dX13_get_24 (Nat.le_of_ble_eq_true rfl) rfl ?_
      refine z_iload_n ho dX13_get_25 rfl ?_
      refine z_iconst ho dX13_get_26 ?_
      refine z_icmp_ne (tgt := 34) ho dX13_get_27 (by decide) (by unfold rng; omega) (by unfold rng; omega) (fun c27 => ?_) (fun c27 => ?_)
      · 
        refine z_aload_n ho dX13_get_34 rfl ?_
        refine gX13_25 ho dX13_get_35 hm.1 (mget hm.r7 ?_)
        refine z_iload_n ho dX13_get_38 rfl ?_
        refine z_iald ho dX13_get_39 hm.k6 (by omega) (hm.t6 (by omega)) ?_
        refine r_I ho dX13_get_40 (Nat.le_of_ble_eq_true rfl) (Nat.le_of_ble_eq_true rfl) ?_
        rw [q3]
        refine Or.inr ⟨vs, hin.1, hvs, HQ, Or.inr ⟨z1, ?_⟩⟩
        rw [← z3]
        exact List.mem_of_getElem? z2
      · omega
  · 
    refine z_aload_n ho dX13_get_8 rfl ?_
    refine z_iconst ho dX13_get_9 ?_
    refine kX13_126 ho hN (c_raise _ _ hm) dX13_get_10 hm.1 (Nat.le_of_ble_eq_true rfl) (Nat.le_of_ble_eq_true rfl) (Nat.le_of_ble_eq_true rfl) (Nat.le_of_ble_eq_true rfl) (fun x10 u10 h10 => ?_)
    obtain ⟨rfl, rfl⟩ := h10
    refine r_I ho dX13_get_13 (Nat.le_of_ble_eq_true rfl) (Nat.le_of_ble_eq_true rfl) ?_
    refine Or.inl ⟨fun z => ?_, qM_raise h⟩
    rcases hs with ⟨y, -⟩ | ⟨-, y⟩
    · omega
    · exact y z
