set_option maxRecDepth 100000
/-! ===== the automaton: plain laws ===== -/
def Ch (nx : Int → Int) : Int → List Nat → Prop
  | x, [] => x = -1
  | x, t :: L => x = (t : Int) ∧ Ch nx (nx t) L
theorem Ch.congr {nx nx' : Int → Int} : ∀ {L : List Nat} {x : Int}, Ch nx x L → (∀ t ∈ L, nx' (t : Int) = nx (t : Int)) → Ch nx' x L := by
  intro L
  induction L with
  | nil => intro x h _; exact h
  | cons t L ih =>
    intro x h he
    refine ⟨h.1, ?_⟩
    rw [he t List.mem_cons_self]
    exact ih h.2 (fun s hs => he s (List.mem_cons_of_mem _ hs))
/-- a tree of texts: the text of each state, the steps of each state -/
def TI (fs nx lt : Int → Int) (n : Nat) (pf : Nat → List Int) (St : Nat → List Nat) : Prop :=
  0 < n ∧ pf 0 = [] ∧ (∀ s, s < n → Ch nx (fs (s : Int)) (St s)) ∧ (∀ s, s < n → ∀ t ∈ St s, t + 1 < n ∧ pf (t + 1) = pf s ++ [lt (t : Int)]) ∧ (∀ t, t + 1 < n → ∃ s, s < n ∧ t ∈ St s) ∧ (∀ s s', s < n → s' < n → pf s = pf s' → s = s') ∧ (∀ s, s < n → (St s).Pairwise (fun (a b : Nat) => lt (b : Int) < lt (a : Int)))
theorem TI.one {fs nx lt : Int → Int} (h : fs 0 = -1) : TI fs nx lt 1 (fun _ => []) (fun _ => []) :=
  ⟨by omega, rfl, fun s hs => by have : s = 0 := by omega
                                 subst this; exact h, fun s _ t ht => by simp at ht, fun t ht => by omega, fun s s' h1 h2 _ => by omega, fun s _ => List.Pairwise.nil⟩
/-- a step from a state by a character: there is one just if the text with it is a state's -/
theorem TI.node {fs nx lt : Int → Int} {n : Nat} {pf : Nat → List Int} {St : Nat → List Nat} (h : TI fs nx lt n pf St) {s s' : Nat} {c : Int} (hs : s < n) (hs' : s' < n) (e : pf s' = pf s ++ [c]) : ∃ t ∈ St s, lt (t : Int) = c ∧ s' = t + 1 := by
  obtain ⟨h0, h1, h2, h3, h4, h5, h6⟩ := h
  cases s' with
  | zero => rw [h1] at e; simp at e
  | succ t =>
    obtain ⟨s2, g1, g2⟩ := h4 t hs'
    obtain ⟨g3, g4⟩ := h3 s2 g1 t g2
    rw [g4] at e
    have := List.append_inj' e rfl
    have e2 := h5 s2 s g1 hs this.1
    subst e2
    exact ⟨t, g2, by simpa using this.2, rfl⟩
theorem TI.grow {fs nx lt fs' nx' lt' : Int → Int} {n : Nat} {pf : Nat → List Int} {St : Nat → List Nat} {s : Nat} {c : Int} (h : TI fs nx lt n pf St) (hs : s < n) (hno : ∀ x, x < n → pf x ≠ pf s ++ [c]) (hgt : ∀ t ∈ St s, lt (t : Int) < c)
    (f1 : ∀ x : Nat, x < n → x ≠ s → fs' (x : Int) = fs (x : Int)) (f2 : fs' (s : Int) = ((n - 1 : Nat) : Int)) (f3 : fs' (n : Int) = -1) (x1 : nx' ((n - 1 : Nat) : Int) = fs (s : Int)) (x2 : ∀ x : Nat, x + 1 < n → nx' (x : Int) = nx (x : Int)) (l1 : lt' ((n - 1 : Nat) : Int) = c) (l2 : ∀ x : Nat, x + 1 < n → lt' (x : Int) = lt (x : Int)) :
    TI fs' nx' lt' (n + 1) (fun x => if x = n then pf s ++ [c] else pf x) (fun x => if x = s then (n - 1) :: St s else if x = n then [] else St x) := by
  obtain ⟨h0, h1, h2, h3, h4, h5, h6⟩ := h
  have hsn : s ≠ n := by omega
  have n1 : n - 1 + 1 = n := by omega
  refine ⟨by omega, ?_, fun x hx => ?_, fun x hx t ht => ?_, fun t ht => ?_, fun x x' hx hx' e => ?_, fun x hx => ?_⟩
  · simp only
    rw [if_neg (by omega)]
    exact h1
  · simp only
    by_cases z : x = s
    · rw [if_pos z, z]
      refine ⟨f2, ?_⟩
      rw [x1]
      exact (h2 s hs).congr (fun t ht => x2 t (h3 s hs t ht).1)
    · rw [if_neg z]
      by_cases y : x = n
      · rw [if_pos y, y]; exact f3
      · rw [if_neg y, f1 x (by omega) z]
        exact (h2 x (by omega)).congr (fun t ht => x2 t (h3 x (by omega) t ht).1)
  · simp only at ht ⊢
    by_cases z : x = s
    · rw [if_pos z] at ht
      rw [z, if_neg hsn]
      rcases List.mem_cons.mp ht with q | q
      · rw [q, n1, if_pos rfl, l1]
        exact ⟨by omega, rfl⟩
      · obtain ⟨g1, g2⟩ := h3 s hs t q
        rw [if_neg (by omega), l2 t g1]
        exact ⟨by omega, g2⟩
    · rw [if_neg z] at ht
      by_cases y : x = n
      · rw [if_pos y] at ht; simp at ht
      · rw [if_neg y] at ht
        obtain ⟨g1, g2⟩ := h3 x (by omega) t ht
        rw [if_neg y, if_neg (by omega), l2 t g1]
        exact ⟨by omega, g2⟩
  · by_cases y : t + 1 = n
    · refine ⟨s, by omega, ?_⟩
      show t ∈ if s = s then (n - 1) :: St s else if s = n then [] else St s
      rw [if_pos rfl]
      have : t = n - 1 := by omega
      rw [this]; simp
    · obtain ⟨s2, g1, g2⟩ := h4 t (by omega)
      refine ⟨s2, by omega, ?_⟩
      simp only
      by_cases z : s2 = s
      · rw [if_pos z]; rw [z] at g2; simp [g2]
      · rw [if_neg z, if_neg (by omega)]; exact g2
  · simp only at e
    by_cases y : x = n
    · by_cases y' : x' = n
      · rw [y, y']
      · rw [if_pos y, if_neg y'] at e
        exact absurd e.symm (hno x' (by omega))
    · by_cases y' : x' = n
      · rw [if_neg y, if_pos y'] at e
        exact absurd e (hno x (by omega))
      · rw [if_neg y, if_neg y'] at e
        exact h5 x x' (by omega) (by omega) e
  · simp only
    by_cases z : x = s
    · rw [if_pos z]
      refine List.pairwise_cons.mpr ⟨fun t ht => ?_, ?_⟩
      · rw [l1, l2 t (h3 s hs t ht).1]; exact hgt t ht
      · refine (List.Pairwise.and_mem.mp (h6 s hs)).imp (fun {a b} hab => ?_)
        rw [l2 a (h3 s hs a hab.1).1, l2 b (h3 s hs b hab.2.1).1]; exact hab.2.2
    · rw [if_neg z]
      by_cases y : x = n
      · rw [if_pos y]; exact List.Pairwise.nil
      · rw [if_neg y]
        refine (List.Pairwise.and_mem.mp (h6 x (by omega))).imp (fun {a b} hab => ?_)
        rw [l2 a (h3 x (by omega) a hab.1).1, l2 b (h3 x (by omega) b hab.2.1).1]; exact hab.2.2
/-! ===== the automaton's cells ===== -/
def AX (u : Mem) (au a0 a1 a2 a3 a4 a8 : Nat) : Prop := (kd_ u au = 9 ∧ rv_ u au 0 = a0 ∧ rv_ u au 1 = a1 ∧ rv_ u au 2 = a2 ∧ rv_ u au 3 = a3 ∧ rv_ u au 4 = a4 ∧ rv_ u au 8 = a8) ∧ (kd_ u a0 = 102 ∧ ln_ u a0 = 513) ∧ (kd_ u a1 = 100 ∧ ln_ u a1 = 513) ∧ (kd_ u a2 = 101 ∧ ln_ u a2 = 513) ∧ (kd_ u a3 = 100 ∧ ln_ u a3 = 513) ∧ (kd_ u a4 = 100 ∧ ln_ u a4 = 513) ∧ (kd_ u a8 = 100 ∧ ln_ u a8 = 513) ∧ (a1 ≠ a3 ∧ a1 ≠ a4 ∧ a1 ≠ a8 ∧ a3 ≠ a4 ∧ a3 ≠ a8 ∧ a4 ≠ a8)
def aQ (au a0 a1 a2 a3 a4 a8 : Nat) (a : Nat) (_K : Nat) : Prop := a = au ∨ a = a0 ∨ a = a1 ∨ a = a2 ∨ a = a3 ∨ a = a4 ∨ a = a8
theorem AX.wI {u : Mem} {au a0 a1 a2 a3 a4 a8 b : Nat} {i x : Int} (h : AX u au a0 a1 a2 a3 a4 a8) : AX (wI_ u b i x) au a0 a1 a2 a3 a4 a8 := h
/-- different cells of an automaton -/
theorem AX.ne {u : Mem} {au a0 a1 a2 a3 a4 a8 : Nat} (h : AX u au a0 a1 a2 a3 a4 a8) : (au ≠ a0 ∧ au ≠ a1 ∧ au ≠ a2 ∧ au ≠ a3 ∧ au ≠ a4 ∧ au ≠ a8) ∧ (a0 ≠ a1 ∧ a0 ≠ a2 ∧ a0 ≠ a3 ∧ a0 ≠ a4 ∧ a0 ≠ a8) ∧ (a2 ≠ a1 ∧ a2 ≠ a3 ∧ a2 ≠ a4 ∧ a2 ≠ a8) := by
  obtain ⟨⟨h0, -⟩, ⟨h1, -⟩, ⟨h2, -⟩, ⟨h3, -⟩, ⟨h4, -⟩, ⟨h5, -⟩, ⟨h6, -⟩, -⟩ := h
  refine ⟨⟨?_, ?_, ?_, ?_, ?_, ?_⟩, ⟨?_, ?_, ?_, ?_, ?_⟩, ⟨?_, ?_, ?_, ?_⟩⟩ <;> (intro z; subst z; omega)
/-- keys are no cells of an automaton -/
theorem AX.ky {u v : Mem} {au a0 a1 a2 a3 a4 a8 k : Nat} (h : AX u au a0 a1 a2 a3 a4 a8) (hw : Wf u) (hF : Fr (aQ au a0 a1 a2 a3 a4 a8) u v) (hk : Ky u k) : Ky v k ∧ tx v k = tx u k := by
  obtain ⟨⟨h0, -⟩, ⟨h1, -⟩, ⟨h2, -⟩, ⟨h3, l3⟩, ⟨h4, -⟩, ⟨h5, -⟩, ⟨h6, -⟩, -⟩ := h
  have hd := hk.kd
  have hc := hk.2.2.1
  have hn := hk.2.2.2.1
  have hl := hk.lt hw
  refine hk.same ((hF.2 k hl.1).2.2 (fun z => ?_)) ((hF.2 (k + 1) hl.2.1).2.2 (fun z => ?_))
  · rcases z with z | z | z | z | z | z | z <;> (rw [z] at hd; omega)
  · rcases z with z | z | z | z | z | z | z <;> (rw [z] at hc hn; omega)
theorem c_step (l : Launch) (u : Mem) {au a0 a1 a2 a3 a4 a8 : Nat} {s c : Int} {L : List Nat} (hX : AX u au a0 a1 a2 a3 a4 a8) (hs0 : 0 ≤ s) (hs1 : s < 513) (hc : rng c) (hL : Ch (iv_ u a4) (iv_ u a1 s) L) (hl : ∀ t ∈ L, t < 513 ∧ 0 ≤ iv_ u a2 (t : Int) ∧ iv_ u a2 (t : Int) < 65536) :
    Mt_ l yX9_step cX9_step 4 (some .int) 0 0 0 [aR au, aI s, aI c] u (qI fun r u' => u = u' ∧ ((∃ t ∈ L, iv_ u a2 (t : Int) = c ∧ r = (t : Int)) ∨ (r = -1 ∧ ∀ t ∈ L, iv_ u a2 (t : Int) ≠ c))) := by
  obtain ⟨⟨ka, r0, r1, r2, r3, r4, r8⟩, ⟨k0, l0⟩, ⟨k1, l1⟩, ⟨k2, l2⟩, ⟨k3, l3⟩, ⟨k4, l4⟩, ⟨k8, l8⟩, -⟩ := hX
  refine Mt_of (by decide) (Nat.le_of_ble_eq_true rfl) (fun X ho hX hN hI => ?_)
  subst hX
  show Z X 0 [some (aR au), some (aI s), some (aI c), none] [] u 0 0
  refine z_aload_n ho dX9_step_0 rfl ?_
  refine gX9_15 ho dX9_step_1 ka ?_
  rw [r1]
  refine z_iload_n ho dX9_step_4 rfl ?_
  refine z_iald ho dX9_step_5 k1 hs0 (by omega) ?_
  refine z_istore_n ho dX9_step_6 (Nat.le_of_ble_eq_true rfl) rfl ?_
  have key : ∀ (M pre : List Nat) (x : Int), L = pre ++ M → Ch (iv_ u a4) x M → (∀ t ∈ pre, iv_ u a2 (t : Int) ≠ c) → Z X 7 [some (aR au), some (aI s), some (aI c), some (aI x)] [] u 0 0 := by
    intro M
    induction M with
    | nil =>
      intro pre x h1 h2 h3
      have hx : x = -1 := h2
      subst hx
      refine z_iload_n ho dX9_step_7 rfl ?_
      refine z_iconst ho dX9_step_8 ?_
      refine z_icmp_eq (tgt := 34) ho dX9_step_9 (by decide) (by unfold rng; omega) (by unfold rng; omega) (fun c9 => ?_) (fun c9 => ?_)
      · 
        refine z_iconst ho dX9_step_34 ?_
        refine r_I ho dX9_step_35 (Nat.le_of_ble_eq_true rfl) (Nat.le_of_ble_eq_true rfl) ?_
        exact ⟨rfl, Or.inr ⟨rfl, fun t ht => h3 t (by rw [h1] at ht; simpa using ht)⟩⟩
      · exact absurd rfl c9
    | cons t M ih =>
      intro pre x h1 h2 h3
      obtain ⟨hx, h2⟩ := h2
      subst hx
      have ht := hl t (by rw [h1]; simp)
      refine z_iload_n ho dX9_step_7 rfl ?_
      refine z_iconst ho dX9_step_8 ?_
      refine z_icmp_eq (tgt := 34) ho dX9_step_9 (by decide) (by unfold rng; omega) (by unfold rng; omega) (fun c9 => ?_) (fun c9 => ?_)
      · omega
      · 
        refine z_aload_n ho dX9_step_12 rfl ?_
        refine gX9_19 ho dX9_step_13 ka ?_
        rw [r2]
        refine z_iload_n ho dX9_step_16 rfl ?_
        refine z_cald ho dX9_step_17 k2 (by omega) (by omega) ?_
        refine z_iload_n ho dX9_step_18 rfl ?_
        refine z_icmp_ne (tgt := 24) ho dX9_step_19 (by decide) (by unfold rng; omega) hc (fun c19 => ?_) (fun c19 => ?_)
        · 
          refine z_aload_n ho dX9_step_24 rfl ?_
          refine gX9_26 ho dX9_step_25 ka ?_
          rw [r4]
          refine z_iload_n ho dX9_step_28 rfl ?_
          refine z_iald ho dX9_step_29 k4 (by omega) (by omega) ?_
          refine z_istore_n ho dX9_step_30 (Nat.le_of_ble_eq_true rfl) rfl ?_
          refine z_goto (tgt := 7) ho dX9_step_31 (by decide) ?_
          exact ih (pre ++ [t]) _ (by rw [h1]; simp) h2 (fun t' ht' => by
            rcases List.mem_append.mp ht' with q | q
            · exact h3 t' q
            · rw [List.mem_singleton.mp q]; exact c19)
        · 
          refine z_iload_n ho dX9_step_22 rfl ?_
          refine r_I ho dX9_step_23 (Nat.le_of_ble_eq_true rfl) (Nat.le_of_ble_eq_true rfl) ?_
          exact ⟨rfl, Or.inl ⟨t, by rw [h1]; simp, c19, rfl⟩⟩
  exact key L [] _ rfl hL (fun t ht => by simp at ht)
theorem c_state (l : Launch) (u : Mem) {au a0 a1 a2 a3 a4 a8 : Nat} (hX : AX u au a0 a1 a2 a3 a4 a8) (h0 : 0 ≤ iv_ u au 5) (h1 : iv_ u au 5 < 513) : Mt_ l yX9_state cX9_state 1 (some .int) 0 0 0 [aR au] u (qI fun r u' => u' = wI_ (wI_ (wI_ u a0 (iv_ u au 5) 0) a1 (iv_ u au 5) (-1)) au 5 (iv_ u au 5 + 1) ∧ r = iv_ u au 5) := by
  obtain ⟨n1, n2, n3⟩ := hX.ne
  obtain ⟨⟨ka, r0, r1, r2, r3, r4, r8⟩, ⟨k0, l0⟩, ⟨k1, l1⟩, ⟨k2, l2⟩, ⟨k3, l3⟩, ⟨k4, l4⟩, ⟨k8, l8⟩, -⟩ := hX
  refine Mt_of (by decide) (Nat.le_of_ble_eq_true rfl) (fun X ho hX hN hI => ?_)
  subst hX
  show Z X 0 [some (aR au)] [] u 0 0
  have e1 : iv_ (wI_ u a0 (iv_ u au 5) 0) au 5 = iv_ u au 5 := by rw [iv_wI, if_neg (fun z => n1.1 z.1)]
  have e2 : iv_ (wI_ (wI_ u a0 (iv_ u au 5) 0) a1 (iv_ u au 5) (-1)) au 5 = iv_ u au 5 := by rw [iv_wI, if_neg (fun z => n1.2.1 z.1)]; exact e1
  have e3 : ∀ x, iv_ (wI_ (wI_ (wI_ u a0 (iv_ u au 5) 0) a1 (iv_ u au 5) (-1)) au 5 x) au 5 = x := fun x => by rw [iv_wI, if_pos ⟨rfl, rfl⟩]
  refine z_aload_n ho dX9_state_0 rfl ?_
  refine gX9_11 ho dX9_state_1 ka ?_
  rw [r0]
  refine z_aload_n ho dX9_state_4 rfl ?_
  refine gX9_32 ho dX9_state_5 ka ?_
  refine z_iconst ho dX9_state_8 ?_
  refine z_zast ho dX9_state_9 k0 h0 (by omega) (Or.inl rfl) ?_
  refine z_aload_n ho dX9_state_10 rfl ?_
  refine gX9_15 ho dX9_state_11 ka ?_
  rw [rv_wI, r1]
  refine z_aload_n ho dX9_state_14 rfl ?_
  refine gX9_32 ho dX9_state_15 ka ?_
  rw [e1]
  refine z_iconst ho dX9_state_18 ?_
  refine z_iast ho dX9_state_19 k1 h0 (by rw [ln_wI]; omega) ?_
  refine z_aload_n ho dX9_state_20 rfl ?_
  refine z_dup ho dX9_state_21 rfl ?_
  refine gX9_32 ho dX9_state_22 ka ?_
  rw [e2]
  refine z_iconst ho dX9_state_25 ?_
  refine z_iadd ho dX9_state_26 ?_
  refine pX9_32 ho dX9_state_27 ka  ?_
  refine z_aload_n ho dX9_state_30 rfl ?_
  refine gX9_32 ho dX9_state_31 ka ?_
  rw [e3]
  refine z_iconst ho dX9_state_34 ?_
  refine z_isub ho dX9_state_35 ?_
  refine r_I ho dX9_state_36 (Nat.le_of_ble_eq_true rfl) (Nat.le_of_ble_eq_true rfl) ?_
  exact ⟨rfl, by omega⟩
theorem c_abegin (l : Launch) (u : Mem) {au : Nat} (ka : kd_ u au = 9) : Mt_ l yX9_begin cX9_begin 1 none 0 0 0 [aR au] u (qV fun u' => u' = wI_ (wI_ (wI_ (wI_ u au 5 0) au 6 0) au 9 0) au 7 (-1)) := by
  refine Mt_of (by decide) (Nat.le_of_ble_eq_true rfl) (fun X ho hX hN hI => ?_)
  subst hX
  show Z X 0 [some (aR au)] [] u 0 0
  refine z_aload_n ho dX9_begin_0 rfl ?_
  refine z_iconst ho dX9_begin_1 ?_
  refine pX9_32 ho dX9_begin_2 ka  ?_
  refine z_aload_n ho dX9_begin_5 rfl ?_
  refine z_iconst ho dX9_begin_6 ?_
  refine pX9_36 ho dX9_begin_7 ka  ?_
  refine z_aload_n ho dX9_begin_10 rfl ?_
  refine z_iconst ho dX9_begin_11 ?_
  refine pX9_39 ho dX9_begin_12 ka  ?_
  refine z_aload_n ho dX9_begin_15 rfl ?_
  refine z_iconst ho dX9_begin_16 ?_
  refine pX9_42 ho dX9_begin_17 ka  ?_
  refine r_V ho dX9_begin_20 (Nat.le_of_ble_eq_true rfl) (Nat.le_of_ble_eq_true rfl) ?_
  rfl
/-- while keys are added -/
def LI (v : Mem) (au a0 a1 a2 a3 a4 : Nat) (n : Nat) (pf : Nat → List Int) (St : Nat → List Nat) (Ks : List (List Int)) (P : List Int) : Prop :=
  TI (iv_ v a1) (iv_ v a4) (iv_ v a2) n pf St ∧ (iv_ v au 5 = n ∧ iv_ v au 6 = (n : Int) - 1 ∧ iv_ v au 7 = 0 ∧ iv_ v au 9 = 0) ∧ (∀ p, (∃ s, s < n ∧ pf s = p) ↔ (∃ k ∈ Ks, p <+: k) ∨ p <+: P) ∧ (∀ s : Nat, s < n → (iv_ v a0 (s : Int) = 1 ∧ pf s ∈ Ks) ∨ (iv_ v a0 (s : Int) = 0 ∧ pf s ∉ Ks)) ∧ (∀ t : Nat, t + 1 < n → iv_ v a3 (t : Int) = (t : Int) + 1 ∧ 0 ≤ iv_ v a2 (t : Int) ∧ iv_ v a2 (t : Int) < 65536)
/-- the automaton while keys are added -/
def AB (v : Mem) (au a0 a1 a2 a3 a4 : Nat) (Ks : List (List Int)) : Prop := (Ks = [] ∧ iv_ v au 5 = 0 ∧ iv_ v au 6 = 0 ∧ iv_ v au 7 = -1 ∧ iv_ v au 9 = 0) ∨ (Ks ≠ [] ∧ ∃ n pf St, LI v au a0 a1 a2 a3 a4 n pf St Ks [] ∧ n ≤ 1 + 8 * Ks.length)
theorem pre_take {K p : List Int} {i : Nat} {c : Int} (hc : K[i]? = some c) : p <+: K.take (i + 1) ↔ p <+: K.take i ∨ p = K.take i ++ [c] := by
  have hi := (List.getElem?_eq_some_iff.mp hc).1
  have e : K.take (i + 1) = K.take i ++ [c] := by rw [List.take_add_one, hc]; rfl
  rw [e]
  constructor
  · rintro ⟨s, hs⟩
    rcases List.eq_nil_or_concat s with rfl | ⟨s', d, rfl⟩
    · right; simpa using hs
    · rw [List.concat_eq_append, ← List.append_assoc] at hs
      have := List.append_inj' hs rfl
      exact Or.inl ⟨s', this.1⟩
  · rintro (h | h)
    · exact h.trans (List.prefix_append _ _)
    · rw [h]; exact List.prefix_refl _
/-- a key behind all others: its character is greater than those of the steps there are -/
theorem last_gt {k K : List Int} {i : Nat} {c d : Int} (hlt : k < K) (h1 : K.take i ++ [d] <+: k) (hc : K[i]? = some c) (hne : d ≠ c) : d < c := by
  obtain ⟨s, hs⟩ := h1
  have e : K = K.take i ++ (c :: K.drop (i + 1)) := by
    have h2 := List.take_append_drop i K
    have h3 : K.drop i = c :: K.drop (i + 1) := by
      rw [List.drop_eq_getElem_cons (List.getElem?_eq_some_iff.mp hc).1]
      congr 1
      exact (List.getElem?_eq_some_iff.mp hc).2
    rw [h3] at h2
    exact h2.symm
  rw [e, ← hs, List.append_assoc] at hlt
  rcases Int.lt_trichotomy d c with q | q | q
  · exact q
  · exact absurd q hne
  · exfalso
    exact li_as hlt (lt_app (K.take i) (lt_hd q _ _))
theorem c_aadd (l : Launch) (u : Mem) {au a0 a1 a2 a3 a4 a8 k : Nat} {Ks : List (List Int)} (hX : AX u au a0 a1 a2 a3 a4 a8) (hk : Ky u k) (hA : AB u au a0 a1 a2 a3 a4 Ks) (hlt : ∀ k' ∈ Ks, k' < tx u k) (hKs : Ks.length < 60) :
    Mt_ l yX9_add cX9_add 5 none 1 0 0 [aR au, aR k] u (qV fun v => AB v au a0 a1 a2 a3 a4 (Ks ++ [tx u k]) ∧ Fr (aQ au a0 a1 a2 a3 a4 a8) u v ∧ sz_ v = sz_ u ∧ AX v au a0 a1 a2 a3 a4 a8) := by
  obtain ⟨n1, n2, n3⟩ := hX.ne
  have hX' := hX
  obtain ⟨⟨ka, r0, r1, r2, r3, r4, r8⟩, ⟨k0, l0⟩, ⟨k1, l1⟩, ⟨k2, l2⟩, ⟨k3, l3⟩, ⟨k4, l4⟩, ⟨k8, l8⟩, d13, d14, d18, d34, d38, d48⟩ := hX
  refine Mt_of (by decide) (Nat.le_of_ble_eq_true rfl) (fun X ho hX hN hI => ?_)
  subst hX
  show Z X 0 [some (aR au), some (aR k), none, none, none] [] u 0 0
  refine z_wf (fun hw => ?_)
  have hkn := hk.tx_len
  have hn8 := hk.2.2.2.2.2.1
  have loop : ∀ (m i : Nat) (v : Mem) (n s : Nat) (pf : Nat → List Int) (St : Nat → List Nat) (tm : Option AV), m + i = (tx u k).length → AX v au a0 a1 a2 a3 a4 a8 → Fr (aQ au a0 a1 a2 a3 a4 a8) u v → sz_ v = sz_ u → LI v au a0 a1 a2 a3 a4 n pf St Ks ((tx u k).take i) → s < n → pf s = (tx u k).take i → n ≤ 1 + 8 * Ks.length + i → Z X 23 [some (aR au), some (aR k), some (aI (s : Int)), some (aI (i : Int)), tm] [] v 0 0 := by
    intro m
    induction m with
    | zero =>
      intro i v n s pf St tm hmi hXv hF hz hL hs hp hn
      have hXv0 := hXv
      obtain ⟨⟨ka', r0', r1', r2', r3', r4', r8'⟩, ⟨k0', l0'⟩, -⟩ := hXv
      obtain ⟨hkv, htv⟩ := hX'.ky hw hF hk
      have hnv : iv_ v k 1 = i := by rw [← hkv.tx_len, htv]; omega
      have hti : (tx u k).take i = tx u k := List.take_of_length_le (by omega)
      rw [hti] at hL hp
      refine z_iload_n ho dX9_add_23 rfl ?_
      refine z_aload_n ho dX9_add_24 rfl ?_
      refine gX9_49 ho dX9_add_25 hkv.1 ?_
      refine z_icmp_ge (tgt := 125) ho dX9_add_28 (by decide) (by unfold rng; omega) (by unfold rng; omega) (fun c28 => ?_) (fun c28 => ?_)
      · 
        refine z_aload_n ho dX9_add_125 rfl ?_
        refine gX9_11 ho dX9_add_126 ka' ?_
        rw [r0']
        refine z_iload_n ho dX9_add_129 rfl ?_
        refine z_iconst ho dX9_add_130 ?_
        refine z_zast ho dX9_add_131 k0' (by omega) (by omega) (Or.inr rfl) ?_
        refine r_V ho dX9_add_132 (Nat.le_of_ble_eq_true rfl) (Nat.le_of_ble_eq_true rfl) ?_
        obtain ⟨h1, ⟨h2, h3, h4, h5⟩, h6, h7, h8⟩ := hL
        have ei : ∀ b, b ≠ a0 → ∀ i, iv_ (wI_ v a0 (s : Int) 1) b i = iv_ v b i := fun b hb i => by rw [iv_wI, if_neg (fun z => hb z.1)]
        have ef : ∀ b, b ≠ a0 → iv_ (wI_ v a0 (s : Int) 1) b = iv_ v b := fun b hb => funext (ei b hb)
        refine ⟨Or.inr ⟨by simp, n, pf, St, ⟨?_, ⟨by rw [ei au n1.1]; exact h2, by rw [ei au n1.1]; exact h3, by rw [ei au n1.1]; exact h4, by rw [ei au n1.1]; exact h5⟩, fun p => ?_, fun x hx => ?_, fun t ht => by rw [ei a3 (Ne.symm n2.2.2.1), ei a2 (Ne.symm n2.2.1)]; exact h8 t ht⟩, by simp; omega⟩, hF.nI (Or.inr (Or.inr (Or.inl rfl))), hz, hXv0⟩
        · rw [ef a1 (Ne.symm n2.1), ef a4 (Ne.symm n2.2.2.2.1), ef a2 (Ne.symm n2.2.1)]; exact h1
        · rw [h6 p]
          simp only [List.mem_append, List.mem_singleton]
          constructor
          · rintro (⟨k', q1, q2⟩ | q)
            · exact Or.inl ⟨k', Or.inl q1, q2⟩
            · exact Or.inl ⟨_, Or.inr rfl, q⟩
          · rintro (⟨k', q1 | q1, q2⟩ | q)
            · exact Or.inl ⟨k', q1, q2⟩
            · rw [q1] at q2; exact Or.inr q2
            · exact Or.inr (q.trans List.nil_prefix)
        · rw [iv_wI]
          by_cases z : x = s
          · rw [if_pos ⟨rfl, by rw [z]⟩, z, hp]
            exact Or.inl ⟨rfl, by simp⟩
          · rw [if_neg (fun y => z (by omega))]
            have hne : pf x ≠ tx u k := fun y => z (h1.2.2.2.2.2.1 x s hx hs (by rw [y, hp]))
            rcases h7 x hx with q | q
            · exact Or.inl ⟨q.1, by simp [q.2]⟩
            · exact Or.inr ⟨q.1, by simp [q.2, hne]⟩
      · omega
    | succ m ih =>
      intro i v n s pf St tm hmi hXv hF hz hL hs hp hn
      have hXv' := hXv
      obtain ⟨⟨ka', r0', r1', r2', r3', r4', r8'⟩, ⟨k0', l0'⟩, ⟨k1', l1'⟩, ⟨k2', l2'⟩, ⟨k3', l3'⟩, ⟨k4', l4'⟩, -⟩ := hXv
      obtain ⟨hkv, htv⟩ := hX'.ky hw hF hk
      have hnv : iv_ v k 1 = m + 1 + i := by rw [← hkv.tx_len, htv]; omega
      have hki : i < (tx u k).length := by omega
      generalize hcc : (tx u k)[i] = c at *
      have hc : (tx u k)[i]? = some c := by rw [List.getElem?_eq_getElem hki, hcc]
      have hcv : iv_ v (k + 1) (i : Int) = c := by
        rw [← hkv.tx_ch (i := (i : Int)) (by omega) (by omega), htv]
        unfold ch
        simp [hki, hcc]
      have hcr := hk.Tx.2 c (List.mem_of_getElem? hc)
      have hL' := hL
      obtain ⟨h1, ⟨h2, h3, h4, h5⟩, h6, h7, h8⟩ := hL
      have hst := h1.2.2.2.1 s hs
      have etk : (tx u k).take (i + 1) = (tx u k).take i ++ [c] := by rw [List.take_add_one, hc]; rfl
      have e1 : ((i + 1 : Nat) : Int) = (i : Int) + 1 := by omega
      refine z_iload_n ho dX9_add_23 rfl ?_
      refine z_aload_n ho dX9_add_24 rfl ?_
      refine gX9_49 ho dX9_add_25 hkv.1 ?_
      refine z_icmp_ge (tgt := 125) ho dX9_add_28 (by decide) (by unfold rng; omega) (by unfold rng; omega) (fun c28 => ?_) (fun c28 => ?_)
      · omega
      · 
        refine z_aload_n ho dX9_add_31 rfl ?_
        refine z_iload_n ho dX9_add_32 rfl ?_
        refine z_aload_n ho dX9_add_33 rfl ?_
        refine gX9_54 ho dX9_add_34 hkv.1 ?_
        rw [hkv.2.1]
        refine z_iload_n ho dX9_add_37 rfl ?_
        refine z_cald ho dX9_add_38 hkv.2.2.1 (by omega) (by rw [hkv.2.2.2.1]; omega) ?_
        rw [hcv]
        refine kX9_57 ho hN (c_step _ _ (L := St s) hXv' (by omega) (by omega) (by unfold rng; omega) (h1.2.2.1 s hs) (fun t ht => ⟨by have := (hst t ht).1; omega, (h8 t (hst t ht).1).2⟩)) dX9_add_39 ka' (by omega) (Nat.le_of_ble_eq_true rfl) (Nat.le_of_ble_eq_true rfl) (Nat.le_of_ble_eq_true rfl) (fun x39 u39 h39 => ?_)
        obtain ⟨rfl, hr⟩ := h39
        rcases hr with ⟨t, ht1, ht2, ht3⟩ | ⟨ht1, ht2⟩
        · -- there is a step
          subst ht3
          obtain ⟨g1, g2⟩ := hst t ht1
          refine z_istore ho dX9_add_42 (Nat.le_of_ble_eq_true rfl) rfl ?_
          refine z_iload ho dX9_add_44 rfl ?_
          refine z_iconst ho dX9_add_46 ?_
          refine z_icmp_ne (tgt := 111) ho dX9_add_47 (by decide) (by unfold rng; omega) (by unfold rng; omega) (fun c47 => ?_) (fun c47 => ?_)
          · 
            refine z_aload_n ho dX9_add_111 rfl ?_
            refine gX9_23 ho dX9_add_112 ka' ?_
            rw [r3']
            refine z_iload ho dX9_add_115 rfl ?_
            refine z_iald ho dX9_add_117 k3' (by omega) (by omega) ?_
            rw [(h8 t g1).1]
            refine z_istore_n ho dX9_add_118 (Nat.le_of_ble_eq_true rfl) rfl ?_
            refine z_iinc ho dX9_add_119 rfl rfl ?_
            refine z_goto (tgt := 23) ho dX9_add_122 (by decide) ?_
            have := ih (i + 1) v n (t + 1) pf St (some (aI (t : Int))) (by omega) hXv' hF hz ⟨h1, ⟨h2, h3, h4, h5⟩, fun p => ?_, h7, h8⟩ g1 (by rw [g2, hp, ht2, etk]) (by omega)
            · rw [e1] at this
              exact this
            · rw [h6 p, pre_take hc]
              constructor
              · rintro (q | q)
                · exact Or.inl q
                · exact Or.inr (Or.inl q)
              · rintro (q | q | q)
                · exact Or.inl q
                · exact Or.inr q
                · have := (h6 p).mp ⟨t + 1, g1, by rw [g2, hp, ht2, q]⟩
                  exact this
          · omega
        · -- a new one
          subst ht1
          have hn0 := h1.1
          have hno : ∀ x, x < n → pf x ≠ pf s ++ [c] := fun x hx z => by
            obtain ⟨t, q1, q2, -⟩ := h1.node hs hx z
            exact ht2 t q1 q2
          have hgt : ∀ t ∈ St s, iv_ v a2 (t : Int) < c := fun t ht => by
            obtain ⟨g1, g2⟩ := hst t ht
            rw [hp] at g2
            rcases (h6 (pf (t + 1))).mp ⟨t + 1, g1, rfl⟩ with ⟨k', q1, q2⟩ | q
            · rw [g2] at q2
              exact last_gt (hlt k' q1) q2 hc (ht2 t ht)
            · rw [g2] at q
              have := q.length_le
              rw [List.length_append, List.length_singleton] at this
              omega
          have en : (n : Int) - 1 = ((n - 1 : Nat) : Int) := by omega
          refine z_istore ho dX9_add_42 (Nat.le_of_ble_eq_true rfl) rfl ?_
          refine z_iload ho dX9_add_44 rfl ?_
          refine z_iconst ho dX9_add_46 ?_
          refine z_icmp_ne (tgt := 111) ho dX9_add_47 (by decide) (by unfold rng; omega) (by unfold rng; omega) (fun c47 => ?_) (fun c47 => ?_)
          · exact absurd rfl c47
          · 
            refine z_aload_n ho dX9_add_50 rfl ?_
            refine gX9_36 ho dX9_add_51 ka' ?_
            rw [h3, en]
            refine z_istore ho dX9_add_54 (Nat.le_of_ble_eq_true rfl) rfl ?_
            refine z_aload_n ho dX9_add_56 rfl ?_
            refine z_dup ho dX9_add_57 rfl ?_
            refine gX9_36 ho dX9_add_58 ka' ?_
            rw [h3, en]
            refine z_iconst ho dX9_add_61 ?_
            refine z_iadd ho dX9_add_62 ?_
            refine pX9_36 ho dX9_add_63 ka'  ?_
            refine z_aload_n ho dX9_add_66 rfl ?_
            refine gX9_19 ho dX9_add_67 ka' ?_
            rw [rv_wI, r2']
            refine z_iload ho dX9_add_70 rfl ?_
            refine z_aload_n ho dX9_add_72 rfl ?_
            refine gX9_54 ho dX9_add_73 (show isK_ (wI_ v au 6 (((n - 1 : Nat) : Int) + 1)) k from hkv.1) ?_
            rw [rv_wI, hkv.2.1]
            refine z_iload_n ho dX9_add_76 rfl ?_
            refine z_cald ho dX9_add_77 hkv.2.2.1 (by omega) (by rw [ln_wI, hkv.2.2.2.1]; omega) ?_
            have hkau : k + 1 ≠ au := fun z => by have := hkv.2.2.1; rw [z] at this; omega
            have ec : iv_ (wI_ v au 6 (((n - 1 : Nat) : Int) + 1)) (k + 1) (i : Int) = c := by rw [iv_wI, if_neg (fun z => hkau z.1)]; exact hcv
            rw [ec]
            refine z_cast ho dX9_add_78 k2' (by omega) (by rw [ln_wI]; omega) (by omega) (by omega) ?_
            generalize hv1 : wI_ (wI_ v au 6 (((n - 1 : Nat) : Int) + 1)) a2 ((n - 1 : Nat) : Int) c = v1
            have X1 : AX v1 au a0 a1 a2 a3 a4 a8 := by rw [← hv1]; exact hXv'
            have f5 : iv_ v1 au 5 = n := by rw [← hv1, iv_wI, if_neg (fun z => n1.2.2.1 z.1), iv_wI, if_neg (by omega)]; exact h2
            refine z_aload_n ho dX9_add_79 rfl ?_
            refine gX9_23 ho dX9_add_80 X1.1.1 ?_
            rw [X1.1.2.2.2.2.1]
            refine z_iload ho dX9_add_83 rfl ?_
            refine z_aload_n ho dX9_add_85 rfl ?_
            refine kX9_45 ho hN (c_state _ _ X1 (by omega) (by omega)) dX9_add_86 X1.1.1 (by omega) (Nat.le_of_ble_eq_true rfl) (Nat.le_of_ble_eq_true rfl) (Nat.le_of_ble_eq_true rfl) (fun x86 u86 h86 => ?_)
            obtain ⟨rfl, rfl⟩ := h86
            rw [f5]
            refine z_iast ho dX9_add_89 X1.2.2.2.2.1.1 (by omega) (by rw [ln_wI, ln_wI, ln_wI, X1.2.2.2.2.1.2]; omega) ?_
            generalize hv2 : wI_ (wI_ (wI_ (wI_ v1 a0 (n : Int) 0) a1 (n : Int) (-1)) au 5 ((n : Int) + 1)) a3 ((n - 1 : Nat) : Int) (n : Int) = v2
            have X2 : AX v2 au a0 a1 a2 a3 a4 a8 := by rw [← hv2]; exact X1
            have fs2 : iv_ v2 a1 (s : Int) = iv_ v a1 (s : Int) := by
              rw [← hv2, iv_wI, if_neg (fun z => d13 z.1), iv_wI, if_neg (fun z => n1.2.1 z.1.symm), iv_wI, if_neg (by omega), iv_wI, if_neg (fun z => n2.1 z.1.symm), ← hv1, iv_wI, if_neg (fun z => n3.1 z.1.symm), iv_wI, if_neg (fun z => n1.2.1 z.1.symm)]
            refine z_aload_n ho dX9_add_90 rfl ?_
            refine gX9_26 ho dX9_add_91 X2.1.1 ?_
            rw [X2.1.2.2.2.2.2.1]
            refine z_iload ho dX9_add_94 rfl ?_
            refine z_aload_n ho dX9_add_96 rfl ?_
            refine gX9_15 ho dX9_add_97 X2.1.1 ?_
            rw [X2.1.2.2.1]
            refine z_iload_n ho dX9_add_100 rfl ?_
            refine z_iald ho dX9_add_101 X2.2.2.1.1 (by omega) (by rw [X2.2.2.1.2]; omega) ?_
            rw [fs2]
            refine z_iast ho dX9_add_102 X2.2.2.2.2.2.1.1 (by omega) (by rw [X2.2.2.2.2.2.1.2]; omega) ?_
            refine z_aload_n ho dX9_add_103 rfl ?_
            refine gX9_15 ho dX9_add_104 X2.1.1 ?_
            rw [rv_wI, X2.1.2.2.1]
            refine z_iload_n ho dX9_add_107 rfl ?_
            refine z_iload ho dX9_add_108 rfl ?_
            refine z_iast ho dX9_add_110 X2.2.2.1.1 (by omega) (by rw [ln_wI, X2.2.2.1.2]; omega) ?_
            generalize hv3 : wI_ (wI_ v2 a4 ((n - 1 : Nat) : Int) (iv_ v a1 (s : Int))) a1 (s : Int) ((n - 1 : Nat) : Int) = v3
            have X3 : AX v3 au a0 a1 a2 a3 a4 a8 := by rw [← hv3]; exact X2
            -- what the cells are now
            have g0 : ∀ j : Int, iv_ v3 a0 j = if j = n then 0 else iv_ v a0 j := fun j => by
              rw [← hv3, iv_wI, if_neg (fun z => n2.1 z.1), iv_wI, if_neg (fun z => n2.2.2.2.1 z.1), ← hv2, iv_wI, if_neg (fun z => n2.2.2.1 z.1), iv_wI, if_neg (fun z => n1.1 z.1.symm), iv_wI, if_neg (fun z => n2.1 z.1), iv_wI]
              by_cases z : j = n
              · rw [if_pos ⟨rfl, z⟩, if_pos z]
              · rw [if_neg (fun y => z y.2), if_neg z, ← hv1, iv_wI, if_neg (fun z => n2.2.1 z.1), iv_wI, if_neg (fun z => n1.1 z.1.symm)]
            have g1 : ∀ j : Int, iv_ v3 a1 j = if j = s then ((n - 1 : Nat) : Int) else if j = n then -1 else iv_ v a1 j := fun j => by
              rw [← hv3, iv_wI]
              by_cases y : j = s
              · rw [if_pos ⟨rfl, y⟩, if_pos y]
              · rw [if_neg (fun z => y z.2), if_neg y, iv_wI, if_neg (fun z => d14 z.1), ← hv2, iv_wI, if_neg (fun z => d13 z.1), iv_wI, if_neg (fun z => n1.2.1 z.1.symm), iv_wI]
                by_cases z : j = n
                · rw [if_pos ⟨rfl, z⟩, if_pos z]
                · rw [if_neg (fun y => z y.2), if_neg z, iv_wI, if_neg (fun z => n2.1 z.1.symm), ← hv1, iv_wI, if_neg (fun z => n3.1 z.1.symm), iv_wI, if_neg (fun z => n1.2.1 z.1.symm)]
            have g2 : ∀ j : Int, iv_ v3 a2 j = if j = ((n - 1 : Nat) : Int) then c else iv_ v a2 j := fun j => by
              rw [← hv3, iv_wI, if_neg (fun z => n3.1 z.1), iv_wI, if_neg (fun z => n3.2.2.1 z.1), ← hv2, iv_wI, if_neg (fun z => n3.2.1 z.1), iv_wI, if_neg (fun z => n1.2.2.1 z.1.symm), iv_wI, if_neg (fun z => n3.1 z.1), iv_wI, if_neg (fun z => n2.2.1 z.1.symm), ← hv1, iv_wI]
              by_cases z : j = ((n - 1 : Nat) : Int)
              · rw [if_pos ⟨rfl, z⟩, if_pos z]
              · rw [if_neg (fun y => z y.2), if_neg z, iv_wI, if_neg (fun z => n1.2.2.1 z.1.symm)]
            have g3 : ∀ j : Int, iv_ v3 a3 j = if j = ((n - 1 : Nat) : Int) then (n : Int) else iv_ v a3 j := fun j => by
              rw [← hv3, iv_wI, if_neg (fun z => d13 z.1.symm), iv_wI, if_neg (fun z => d34 z.1), ← hv2, iv_wI]
              by_cases z : j = ((n - 1 : Nat) : Int)
              · rw [if_pos ⟨rfl, z⟩, if_pos z]
              · rw [if_neg (fun y => z y.2), if_neg z, iv_wI, if_neg (fun z => n1.2.2.2.1 z.1.symm), iv_wI, if_neg (fun z => d13 z.1.symm), iv_wI, if_neg (fun z => n2.2.2.1 z.1.symm), ← hv1, iv_wI, if_neg (fun z => n3.2.1 z.1.symm), iv_wI, if_neg (fun z => n1.2.2.2.1 z.1.symm)]
            have g4 : ∀ j : Int, iv_ v3 a4 j = if j = ((n - 1 : Nat) : Int) then iv_ v a1 (s : Int) else iv_ v a4 j := fun j => by
              rw [← hv3, iv_wI, if_neg (fun z => d14 z.1.symm), iv_wI]
              by_cases z : j = ((n - 1 : Nat) : Int)
              · rw [if_pos ⟨rfl, z⟩, if_pos z]
              · rw [if_neg (fun y => z y.2), if_neg z, ← hv2, iv_wI, if_neg (fun z => d34 z.1.symm), iv_wI, if_neg (fun z => n1.2.2.2.2.1 z.1.symm), iv_wI, if_neg (fun z => d14 z.1.symm), iv_wI, if_neg (fun z => n2.2.2.2.1 z.1.symm), ← hv1, iv_wI, if_neg (fun z => n3.2.2.1 z.1.symm), iv_wI, if_neg (fun z => n1.2.2.2.2.1 z.1.symm)]
            have gu : ∀ j : Int, iv_ v3 au j = if j = 5 then (n : Int) + 1 else if j = 6 then (n : Int) else iv_ v au j := fun j => by
              rw [← hv3, iv_wI, if_neg (fun z => n1.2.1 z.1), iv_wI, if_neg (fun z => n1.2.2.2.2.1 z.1), ← hv2, iv_wI, if_neg (fun z => n1.2.2.2.1 z.1), iv_wI]
              by_cases z : j = 5
              · rw [if_pos ⟨rfl, z⟩, if_pos z]
              · rw [if_neg (fun y => z y.2), if_neg z, iv_wI, if_neg (fun z => n1.2.1 z.1), iv_wI, if_neg (fun z => n1.1 z.1), ← hv1, iv_wI, if_neg (fun z => n1.2.2.1 z.1), iv_wI]
                by_cases y : j = 6
                · rw [if_pos ⟨rfl, y⟩, if_pos y]; omega
                · rw [if_neg (fun z => y z.2), if_neg y]
            have F3 : Fr (aQ au a0 a1 a2 a3 a4 a8) u v3 := by
              have Q : ∀ x, x = au ∨ x = a0 ∨ x = a1 ∨ x = a2 ∨ x = a3 ∨ x = a4 ∨ x = a8 → aQ au a0 a1 a2 a3 a4 a8 x (kd_ u x) := fun x h => h
              rw [← hv3, ← hv2, ← hv1]
              exact ((((((((hF.nI (Or.inr (Q au (by simp)))).nI (Or.inr (Q a2 (by simp)))).nI (Or.inr (Q a0 (by simp)))).nI (Or.inr (Q a1 (by simp)))).nI (Or.inr (Q au (by simp)))).nI (Or.inr (Q a3 (by simp)))).nI (Or.inr (Q a4 (by simp)))).nI (Or.inr (Q a1 (by simp))))
            have Z3 : sz_ v3 = sz_ u := by rw [← hv3, ← hv2, ← hv1]; exact hz
            have T3 := h1.grow (fs' := iv_ v3 a1) (nx' := iv_ v3 a4) (lt' := iv_ v3 a2) hs hno hgt (fun x hx hxs => by rw [g1, if_neg (by omega), if_neg (by omega)]) (by rw [g1, if_pos rfl]) (by rw [g1, if_neg (by omega), if_pos rfl]) (by rw [g4, if_pos rfl]) (fun x hx => by rw [g4, if_neg (by omega)]) (by rw [g2, if_pos rfl]) (fun x hx => by rw [g2, if_neg (by omega)])
            clear hv3 hv2 hv1 fs2 X2 X1 f5
            have e9 : iv_ v3 a3 ((n - 1 : Nat) : Int) = (n : Int) := by rw [g3, if_pos rfl]
            refine z_aload_n ho dX9_add_111 rfl ?_
            refine gX9_23 ho dX9_add_112 X3.1.1 ?_
            rw [X3.1.2.2.2.2.1]
            refine z_iload ho dX9_add_115 rfl ?_
            refine z_iald ho dX9_add_117 X3.2.2.2.2.1.1 (by omega) (by rw [X3.2.2.2.2.1.2]; omega) ?_
            rw [e9]
            refine z_istore_n ho dX9_add_118 (Nat.le_of_ble_eq_true rfl) rfl ?_
            refine z_iinc ho dX9_add_119 rfl rfl ?_
            refine z_goto (tgt := 23) ho dX9_add_122 (by decide) ?_
            have hKl : ∀ x, x < n → (if x = n then pf s ++ [c] else pf x) = pf x := fun x hx => if_neg (by omega)
            have hnotin : pf s ++ [c] ∉ Ks := fun z => by
              obtain ⟨x, hx, hxp⟩ := (h6 (pf s ++ [c])).mpr (Or.inl ⟨_, z, List.prefix_refl _⟩)
              exact hno x hx hxp
            have := ih (i + 1) v3 (n + 1) n (fun x => if x = n then pf s ++ [c] else pf x) (fun x => if x = s then (n - 1) :: St s else if x = n then [] else St x) (some (aI ((n - 1 : Nat) : Int))) (by omega) X3 F3 Z3 ⟨T3, ⟨by rw [gu, if_pos rfl]; omega, by rw [gu, if_neg (by decide), if_pos rfl]; omega, by rw [gu, if_neg (by decide), if_neg (by decide)]; exact h4, by rw [gu, if_neg (by decide), if_neg (by decide)]; exact h5⟩, fun p => ?_, fun x hx => ?_, fun t ht => ?_⟩ (by omega) (by show (if n = n then pf s ++ [c] else pf n) = _; rw [if_pos rfl, hp, etk]) (by omega)
            · rw [e1] at this
              exact this
            · rw [pre_take hc]
              constructor
              · rintro ⟨x, hx, hxp⟩
                simp only at hxp
                by_cases z : x = n
                · rw [if_pos z, hp] at hxp
                  exact Or.inr (Or.inr hxp.symm)
                · rw [if_neg z] at hxp
                  rcases (h6 p).mp ⟨x, by omega, hxp⟩ with q | q
                  · exact Or.inl q
                  · exact Or.inr (Or.inl q)
              · rintro (q | q | q)
                · obtain ⟨x, hx, hxp⟩ := (h6 p).mpr (Or.inl q)
                  exact ⟨x, by omega, by simp only; rw [if_neg (by omega)]; exact hxp⟩
                · obtain ⟨x, hx, hxp⟩ := (h6 p).mpr (Or.inr q)
                  exact ⟨x, by omega, by simp only; rw [if_neg (by omega)]; exact hxp⟩
                · exact ⟨n, by omega, by simp only [if_true]; rw [hp, q]⟩
            · rw [g0]
              simp only
              by_cases z : x = n
              · rw [if_pos (by rw [z]), if_pos z]; exact Or.inr ⟨rfl, hnotin⟩
              · rw [if_neg (by omega), if_neg z]; exact h7 x (by omega)
            · rw [g3, g2]
              by_cases z : t + 1 = n
              · rw [if_pos (by omega), if_pos (by omega)]; exact ⟨by omega, hcr⟩
              · rw [if_neg (by omega), if_neg (by omega)]; exact h8 t (by omega)
  rcases hA with ⟨hK0, b5, b6, b7, b9⟩ | ⟨hKn, n, pf, St, hL, hn⟩
  · subst hK0
    refine z_aload_n ho dX9_add_0 rfl ?_
    refine gX9_42 ho dX9_add_1 ka ?_
    refine z_iconst ho dX9_add_4 ?_
    refine z_icmp_ne (tgt := 16) ho dX9_add_5 (by decide) (by rw [b7]; unfold rng; omega) (by unfold rng; omega) (fun c5 => ?_) (fun c5 => ?_)
    · exact absurd b7 c5
    · 
      refine z_aload_n ho dX9_add_8 rfl ?_
      refine z_aload_n ho dX9_add_9 rfl ?_
      refine kX9_45 ho hN (c_state _ _ hX' (by omega) (by omega)) dX9_add_10 ka (by omega) (Nat.le_of_ble_eq_true rfl) (Nat.le_of_ble_eq_true rfl) (Nat.le_of_ble_eq_true rfl) (fun x10 u10 h10 => ?_)
      obtain ⟨rfl, rfl⟩ := h10
      refine pX9_42 ho dX9_add_13 ka  ?_
      refine z_aload_n ho dX9_add_16 rfl ?_
      refine gX9_42 ho dX9_add_17 ka ?_
      rw [iv_wI, if_pos ⟨rfl, rfl⟩, b5]
      refine z_istore_n ho dX9_add_20 (Nat.le_of_ble_eq_true rfl) rfl ?_
      refine z_iconst ho dX9_add_21 ?_
      refine z_istore_n ho dX9_add_22 (Nat.le_of_ble_eq_true rfl) rfl ?_
      generalize hv : wI_ (wI_ (wI_ (wI_ u a0 0 0) a1 0 (-1)) au 5 (0 + 1)) au 7 0 = v
      have Xv : AX v au a0 a1 a2 a3 a4 a8 := by rw [← hv]; exact hX'
      have Fv : Fr (aQ au a0 a1 a2 a3 a4 a8) u v := by
        have Q : ∀ x, x = au ∨ x = a0 ∨ x = a1 ∨ x = a2 ∨ x = a3 ∨ x = a4 ∨ x = a8 → aQ au a0 a1 a2 a3 a4 a8 x (kd_ u x) := fun x h => h
        rw [← hv]
        exact (((Fr.rf _ u).nI (Or.inr (Q a0 (by simp)))).nI (Or.inr (Q a1 (by simp)))).nI (Or.inr (Q au (by simp))) |>.nI (Or.inr (Q au (by simp)))
      have f1 : iv_ v a1 0 = -1 := by rw [← hv, iv_wI, if_neg (fun z => n1.2.1 z.1.symm), iv_wI, if_neg (fun z => n1.2.1 z.1.symm), iv_wI, if_pos ⟨rfl, rfl⟩]
      have f0 : iv_ v a0 0 = 0 := by rw [← hv, iv_wI, if_neg (fun z => n1.1 z.1.symm), iv_wI, if_neg (fun z => n1.1 z.1.symm), iv_wI, if_neg (fun z => n2.1 z.1), iv_wI, if_pos ⟨rfl, rfl⟩]
      have fu : ∀ j, iv_ v au j = if j = 7 then 0 else if j = 5 then 1 else iv_ u au j := fun j => by
        rw [← hv, iv_wI]
        by_cases z : j = 7
        · rw [if_pos ⟨rfl, z⟩, if_pos z]
        · rw [if_neg (fun y => z y.2), if_neg z, iv_wI]
          by_cases y : j = 5
          · rw [if_pos ⟨rfl, y⟩, if_pos y]; rfl
          · rw [if_neg (fun z => y z.2), if_neg y, iv_wI, if_neg (fun z => n1.2.1 z.1), iv_wI, if_neg (fun z => n1.1 z.1)]
      have := loop (tx u k).length 0 v 1 0 (fun _ => []) (fun _ => []) none (by omega) Xv Fv (by rw [← hv]; rfl) ⟨TI.one f1, ⟨by rw [fu]; simp, by rw [fu]; simp [b6], by rw [fu]; simp, by rw [fu]; simp [b9]⟩, fun p => ?_, fun s hs => ?_, fun t ht => by omega⟩ (by omega) (by simp) (by simp)
      · exact this
      · rw [List.take_zero]
        constructor
        · rintro ⟨s, -, rfl⟩
          exact Or.inr List.nil_prefix
        · rintro (⟨k', q, -⟩ | q)
          · simp at q
          · exact ⟨0, by omega, (List.prefix_nil.mp q).symm⟩
      · have : s = 0 := by omega
        subst this
        exact Or.inr ⟨f0, by simp⟩
  · have h7 := hL.2.1.2.2.1
    refine z_aload_n ho dX9_add_0 rfl ?_
    refine gX9_42 ho dX9_add_1 ka ?_
    refine z_iconst ho dX9_add_4 ?_
    refine z_icmp_ne (tgt := 16) ho dX9_add_5 (by decide) (by rw [h7]; unfold rng; omega) (by unfold rng; omega) (fun c5 => ?_) (fun c5 => ?_)
    · 
      refine z_aload_n ho dX9_add_16 rfl ?_
      refine gX9_42 ho dX9_add_17 ka ?_
      rw [h7]
      refine z_istore_n ho dX9_add_20 (Nat.le_of_ble_eq_true rfl) rfl ?_
      refine z_iconst ho dX9_add_21 ?_
      refine z_istore_n ho dX9_add_22 (Nat.le_of_ble_eq_true rfl) rfl ?_
      exact loop (tx u k).length 0 u n 0 pf St none (by omega) hX' (Fr.rf _ u) rfl (by rw [List.take_zero]; exact hL) hL.1.1 (by rw [List.take_zero]; exact hL.1.2.1) (by omega)
    · omega
