set_option maxRecDepth 100000
/-! ===== order of texts with a common beginning ===== -/
theorem lt_app (p : List Int) {a b : List Int} (h : a < b) : p ++ a < p ++ b := by
  induction p with
  | nil => exact h
  | cons x p ih => exact List.Lex.cons ih
theorem lt_hd {d c : Int} (h : d < c) (a b : List Int) : d :: a < c :: b := List.Lex.rel h
theorem lt_nil (d : Int) (a : List Int) : ([] : List Int) < d :: a := List.Lex.nil
theorem app_hd {p : List Int} {d c : Int} {a b : List Int} (h : p ++ d :: a = p ++ c :: b) : d = c ∧ a = b := by
  have := List.append_cancel_left h
  exact ⟨by injection this, by injection this⟩
theorem Ky.split {u : Mem} {k : Nat} {p q : List Int} (h : Ky u k) (hs : tx u k = p ++ q) {i : Int} (hi : i = p.length) (hlt : i < iv_ u k 1) : ∃ q', q = iv_ u (k + 1) i :: q' := by
  have hl := h.tx_len
  cases q with
  | nil => rw [hs] at hl; simp at hl; omega
  | cons c q' =>
    have := h.tx_ch (i := i) (by omega) hlt
    rw [hs] at this
    unfold ch at this
    rw [hi] at this
    simp at this
    subst hi
    exact ⟨q', by rw [this]⟩
/-! ===== CharTree: ways ===== -/
/-- an entry or none -/
def Ent (u : Mem) (e : Nat) (t : List Int) (es : List Nat) : Prop := (e = 0 ∧ es = []) ∨ (En u e ∧ tx u e = t ∧ es = [e])
def Dj (w : Nat) (a b c : List Nat) : Prop := w ∉ a ∧ w ∉ b ∧ w ∉ c ∧ (∀ x ∈ a, x ∉ b ∧ x ∉ c) ∧ (∀ x ∈ b, x ∉ c)
def WN (u : Mem) (R : List Int → Nat → List Nat → List Nat → Prop) (p : List Int) (w : Nat) (es fp : List Nat) : Prop := kd_ u w = 17 ∧ 0 ≤ iv_ u w 0 ∧ iv_ u w 0 < 65536 ∧ ∃ es1 es2 es3 es4 fp1 fp3 fp4, R p (rv_ u w 1) es1 fp1 ∧ R (p ++ [iv_ u w 0]) (rv_ u w 2) es3 fp3 ∧ R p (rv_ u w 3) es4 fp4 ∧ Ent u (rv_ u w 4) (p ++ [iv_ u w 0]) es2 ∧
  es = es1 ++ (es2 ++ (es3 ++ es4)) ∧ fp = w :: (fp1 ++ (fp3 ++ fp4)) ∧ es2 ++ es3 ≠ [] ∧ Dj w fp1 fp3 fp4 ∧ (∀ e ∈ es1, ∃ d s, tx u e = p ++ d :: s ∧ d < iv_ u w 0) ∧ (∀ e ∈ es4, ∃ d s, tx u e = p ++ d :: s ∧ iv_ u w 0 < d)
/-- a tree of ways of height at most n behind the text p: its entries in order, its cells -/
def WT (u : Mem) : Nat → List Int → Nat → List Nat → List Nat → Prop
  | 0, _, w, es, fp => w = 0 ∧ es = [] ∧ fp = []
  | n + 1, p, w, es, fp => (w = 0 ∧ es = [] ∧ fp = []) ∨ WN u (WT u n) p w es fp
theorem WT.nul (u : Mem) (n : Nat) (p : List Int) : WT u n p 0 [] [] := by
  cases n with
  | zero => exact ⟨rfl, rfl, rfl⟩
  | succ n => exact Or.inl ⟨rfl, rfl, rfl⟩
theorem WT.of0 {u : Mem} {n : Nat} {p : List Int} {es fp : List Nat} (hw : Wf u) (h : WT u n p 0 es fp) : es = [] ∧ fp = [] := by
  cases n with
  | zero => exact h.2
  | succ n =>
    rcases h with h | h
    · exact h.2
    · exact absurd rfl (hw.1 0 (by rw [h.1]; decide)).2
theorem WT.node {u : Mem} {n w : Nat} {p : List Int} {es fp : List Nat} (h : WT u n p w es fp) (h0 : w ≠ 0) : ∃ m, n = m + 1 ∧ WN u (WT u m) p w es fp := by
  cases n with
  | zero => exact absurd h.1 h0
  | succ n => exact ⟨n, rfl, h.resolve_left (fun q => h0 q.1)⟩
theorem WT.mem {u : Mem} : ∀ (n : Nat) (p : List Int) (w : Nat) (es fp : List Nat), WT u n p w es fp → (∀ e ∈ es, En u e ∧ ∃ d s, tx u e = p ++ d :: s) ∧ (∀ x ∈ fp, kd_ u x = 17) ∧ (w ≠ 0 → es ≠ [] ∧ w ∈ fp) := by
  intro n
  induction n with
  | zero => rintro p w es fp ⟨rfl, rfl, rfl⟩; exact ⟨fun e h => by simp at h, fun e h => by simp at h, fun h => absurd rfl h⟩
  | succ n ih =>
    intro p w es fp h
    rcases h with ⟨rfl, rfl, rfl⟩ | ⟨hk, c0, c1, es1, es2, es3, es4, fp1, fp3, fp4, w1, w3, w4, hent, rfl, rfl, hne, dj, lo, hi⟩
    · exact ⟨fun e h => by simp at h, fun e h => by simp at h, fun h => absurd rfl h⟩
    · have i1 := ih _ _ _ _ w1
      have i3 := ih _ _ _ _ w3
      have i4 := ih _ _ _ _ w4
      refine ⟨fun e he => ?_, fun x hx => ?_, fun _ => ⟨?_, by simp⟩⟩
      · simp only [List.mem_append] at he
        rcases he with q | q | q | q
        · exact i1.1 e q
        · rcases hent with ⟨-, rfl⟩ | ⟨h1, h2, rfl⟩
          · simp at q
          · rw [List.mem_singleton.mp q]
            exact ⟨h1, _, _, h2⟩
        · obtain ⟨h1, d, s, h2⟩ := i3.1 e q
          exact ⟨h1, iv_ u w 0, d :: s, by rw [h2]; simp⟩
        · exact i4.1 e q
      · simp only [List.mem_cons, List.mem_append] at hx
        rcases hx with q | q | q | q
        · rw [q]; exact hk
        · exact i1.2.1 x q
        · exact i3.2.1 x q
        · exact i4.2.1 x q
      · intro q
        apply hne
        have := List.append_eq_nil_iff.mp q
        have := List.append_eq_nil_iff.mp this.2
        have h3 := List.append_eq_nil_iff.mp this.2
        rw [this.1, h3.1]; rfl
theorem WT.frame {u u' : Mem} : ∀ (n : Nat) (p : List Int) (w : Nat) (es fp : List Nat), WT u n p w es fp → (∀ x ∈ fp, Sm u u' x) → (∀ e ∈ es, En u' e ∧ tx u' e = tx u e) → WT u' n p w es fp := by
  intro n
  induction n with
  | zero => intro p w es fp h _ _; exact h
  | succ n ih =>
    intro p w es fp h hf he
    rcases h with h | ⟨hk, c0, c1, es1, es2, es3, es4, fp1, fp3, fp4, w1, w3, w4, hent, rfl, rfl, hne, dj, lo, hi⟩
    · exact Or.inl h
    · have sw := hf w (by simp)
      refine Or.inr ⟨by rw [sw.1]; exact hk, by rw [sw.2.2.1]; exact c0, by rw [sw.2.2.1]; exact c1, es1, es2, es3, es4, fp1, fp3, fp4, ?_, ?_, ?_, ?_, rfl, rfl, hne, dj, fun e h => ?_, fun e h => ?_⟩
      · rw [sw.2.2.2]
        exact ih _ _ _ _ w1 (fun x hx => hf x (by simp [hx])) (fun e h => he e (by simp [h]))
      · rw [sw.2.2.2, sw.2.2.1]
        exact ih _ _ _ _ w3 (fun x hx => hf x (by simp [hx])) (fun e h => he e (by simp [h]))
      · rw [sw.2.2.2]
        exact ih _ _ _ _ w4 (fun x hx => hf x (by simp [hx])) (fun e h => he e (by simp [h]))
      · rw [sw.2.2.2, sw.2.2.1]
        rcases hent with h | ⟨h1, h2, rfl⟩
        · exact Or.inl h
        · have := he (rv_ u w 4) (by simp)
          exact Or.inr ⟨this.1, by rw [this.2]; exact h2, rfl⟩
      · rw [sw.2.2.1, (he e (by simp [h])).2]; exact lo e h
      · rw [sw.2.2.1, (he e (by simp [h])).2]; exact hi e h
theorem WT.mono {u : Mem} : ∀ (n m : Nat) (p : List Int) (w : Nat) (es fp : List Nat), WT u n p w es fp → n ≤ m → WT u m p w es fp := by
  intro n
  induction n with
  | zero => rintro m p w es fp ⟨rfl, rfl, rfl⟩ _; exact WT.nul u m p
  | succ n ih =>
    intro m p w es fp h hm
    obtain ⟨m, rfl⟩ : ∃ k, m = k + 1 := ⟨m - 1, by omega⟩
    rcases h with h | ⟨hk, c0, c1, es1, es2, es3, es4, fp1, fp3, fp4, w1, w3, w4, h⟩
    · exact Or.inl h
    · exact Or.inr ⟨hk, c0, c1, es1, es2, es3, es4, fp1, fp3, fp4, ih _ _ _ _ _ w1 (by omega), ih _ _ _ _ _ w3 (by omega), ih _ _ _ _ _ w4 (by omega), h⟩
/-- the height is at most the number of cells -/
theorem WT.fit {u : Mem} : ∀ (n : Nat) (p : List Int) (w : Nat) (es fp : List Nat), WT u n p w es fp → WT u fp.length p w es fp := by
  intro n
  induction n with
  | zero => rintro p w es fp ⟨rfl, rfl, rfl⟩; exact WT.nul u _ p
  | succ n ih =>
    intro p w es fp h
    rcases h with ⟨rfl, rfl, rfl⟩ | ⟨hk, c0, c1, es1, es2, es3, es4, fp1, fp3, fp4, w1, w3, w4, h⟩
    · exact WT.nul u _ p
    · have hfp := h.2.2.1
      rw [hfp, List.length_cons]
      refine Or.inr ⟨hk, c0, c1, es1, es2, es3, es4, fp1, fp3, fp4, WT.mono _ _ _ _ _ _ (ih _ _ _ _ w1) (by simp), WT.mono _ _ _ _ _ _ (ih _ _ _ _ w3) (by simp; omega), WT.mono _ _ _ _ _ _ (ih _ _ _ _ w4) (by simp; omega), h.1, h.2.1, rfl, h.2.2.2⟩
/-- the number of cells is bounded by the lengths of the texts -/
theorem WT.many {u : Mem} : ∀ (n : Nat) (p : List Int) (w : Nat) (es fp : List Nat), WT u n p w es fp → fp.length + p.length * es.length ≤ 8 * es.length := by
  have key : ∀ (n : Nat) (p : List Int) (w : Nat) (es fp : List Nat), WT u n p w es fp → fp.length ≤ (es.map (fun e => (tx u e).length - p.length)).sum := by
    intro n
    induction n with
    | zero => rintro p w es fp ⟨rfl, rfl, rfl⟩; simp
    | succ n ih =>
      intro p w es fp h
      rcases h with ⟨rfl, rfl, rfl⟩ | ⟨hk, c0, c1, es1, es2, es3, es4, fp1, fp3, fp4, w1, w3, w4, hent, rfl, rfl, hne, dj, lo, hi⟩
      · simp
      · have i1 := ih _ _ _ _ w1
        have i3 := ih _ _ _ _ w3
        have i4 := ih _ _ _ _ w4
        have m3 := (WT.mem _ _ _ _ _ w3).1
        have h3 : (es3.map (fun e => (tx u e).length - p.length)).sum = (es3.map (fun e => (tx u e).length - (p ++ [iv_ u w 0]).length)).sum + es3.length := by
          clear i3 w3 hne
          induction es3 with
          | nil => rfl
          | cons e l ih2 =>
            obtain ⟨-, d, s, hh⟩ := m3 e List.mem_cons_self
            have := ih2 (fun x hx => m3 x (List.mem_cons_of_mem _ hx))
            simp only [List.map_cons, List.sum_cons, List.length_cons, this, hh]
            simp
            omega
        have h2 : (es2.map (fun e => (tx u e).length - p.length)).sum = es2.length := by
          rcases hent with ⟨-, rfl⟩ | ⟨h1, h2, rfl⟩
          · rfl
          · simp [h2]
        have h4 : 1 ≤ es2.length + es3.length := by
          rw [← List.length_append]
          exact List.length_pos_iff.mpr hne
        rw [List.map_append, List.map_append, List.map_append, List.sum_append, List.sum_append, List.sum_append, h3, h2, List.length_cons, List.length_append, List.length_append]
        omega
  intro n p w es fp h
  have h1 := key n p w es fp h
  have hm := (WT.mem _ _ _ _ _ h).1
  have h2 : (es.map (fun e => (tx u e).length - p.length)).sum + p.length * es.length ≤ 8 * es.length := by
    clear h1 h
    induction es with
    | nil => simp
    | cons e l ih2 =>
      obtain ⟨he, d, s, hh⟩ := hm e List.mem_cons_self
      have := ih2 (fun x hx => hm x (List.mem_cons_of_mem _ hx))
      have h8 := he.1.Tx.1
      have hp : p.length ≤ (tx u e).length := by rw [hh]; simp
      simp only [List.map_cons, List.sum_cons, List.length_cons, Nat.mul_add, Nat.mul_one]
      omega
  omega
theorem WT.sorted {u : Mem} : ∀ (n : Nat) (p : List Int) (w : Nat) (es fp : List Nat), WT u n p w es fp → es.Pairwise (fun x y => tx u x < tx u y) := by
  intro n
  induction n with
  | zero => rintro p w es fp ⟨rfl, rfl, rfl⟩; exact List.Pairwise.nil
  | succ n ih =>
    intro p w es fp h
    rcases h with ⟨rfl, rfl, rfl⟩ | ⟨hk, c0, c1, es1, es2, es3, es4, fp1, fp3, fp4, w1, w3, w4, hent, rfl, rfl, hne, dj, lo, hi⟩
    · exact List.Pairwise.nil
    · have m3 := (WT.mem _ _ _ _ _ w3).1
      have t2 : ∀ e ∈ es2, tx u e = p ++ [iv_ u w 0] := fun e he => by
        rcases hent with ⟨-, rfl⟩ | ⟨h1, h2, rfl⟩
        · simp at he
        · rw [List.mem_singleton.mp he]; exact h2
      have t23 : ∀ e ∈ es2 ++ es3, ∃ s, tx u e = p ++ iv_ u w 0 :: s := fun e he => by
        rcases List.mem_append.mp he with q | q
        · exact ⟨[], t2 e q⟩
        · obtain ⟨-, d, s, hh⟩ := m3 e q
          exact ⟨d :: s, by rw [hh]; simp⟩
      have hb : ∀ a ∈ es1, ∀ b ∈ es2 ++ es3, tx u a < tx u b := fun a ha b hb => by
        obtain ⟨d, s, h1, h2⟩ := lo a ha
        obtain ⟨s', h3⟩ := t23 b hb
        rw [h1, h3]
        exact lt_app p (lt_hd h2 _ _)
      have hc : ∀ b ∈ es2 ++ es3, ∀ a ∈ es4, tx u b < tx u a := fun b hb a ha => by
        obtain ⟨d, s, h1, h2⟩ := hi a ha
        obtain ⟨s', h3⟩ := t23 b hb
        rw [h1, h3]
        exact lt_app p (lt_hd h2 _ _)
      have hac : ∀ a ∈ es1, ∀ b ∈ es4, tx u a < tx u b := fun a ha b hb => by
        obtain ⟨d, s, h1, h2⟩ := lo a ha
        obtain ⟨d', s', h3, h4⟩ := hi b hb
        rw [h1, h3]
        exact lt_app p (lt_hd (by omega) _ _)
      refine List.pairwise_append.mpr ⟨ih _ _ _ _ w1, List.pairwise_append.mpr ⟨?_, List.pairwise_append.mpr ⟨ih _ _ _ _ w3, ih _ _ _ _ w4, fun a ha b hb => hc a (by simp [ha]) b hb⟩, fun a ha b hb => ?_⟩, fun a ha b hb' => ?_⟩
      · rcases hent with ⟨-, rfl⟩ | ⟨h1, h2, rfl⟩
        · exact List.Pairwise.nil
        · simp
      · rcases List.mem_append.mp hb with q | q
        · obtain ⟨-, d, s, hh⟩ := m3 b q
          rw [t2 a ha, hh]
          have := lt_app (p ++ [iv_ u w 0]) (lt_nil d s)
          simpa using this
        · exact hc a (by simp [ha]) b q
      · rcases List.mem_append.mp hb' with q | q
        · exact hb a ha b (by simp [q])
        · rcases List.mem_append.mp q with q | q
          · exact hb a ha b (by simp [q])
          · exact hac a ha b q
/-! first, here, last -/
theorem c_first_here (l : Launch) (u : Mem) : ∀ (n w : Nat) (p : List Int) (es fp : List Nat), WT u n p w es fp →
    Mt_ l yX12_first cX12_first 2 (some (.object "KeyHall$Entry")) (2 * n) 0 0 [aR w] u (qR fun r u' => u = u' ∧ r = es.head?.getD 0) := by
  have here : ∀ (n w : Nat) (es2 es3 fp3 : List Nat) (t : List Int), kd_ u w = 17 → (∀ (p : List Int) (w : Nat) (es fp : List Nat), WT u n p w es fp → Mt_ l yX12_first cX12_first 2 (some (.object "KeyHall$Entry")) (2 * n) 0 0 [aR w] u (qR fun r u' => u = u' ∧ r = es.head?.getD 0)) → Ent u (rv_ u w 4) t es2 → WT u n t (rv_ u w 2) es3 fp3 → es2 ++ es3 ≠ [] →
      Mt_ l yX12_here cX12_here 1 (some (.object "KeyHall$Entry")) (2 * n + 1) 0 0 [aR w] u (qR fun r u' => u = u' ∧ r = (es2 ++ es3).head?.getD 0) := by
    intro n w es2 es3 fp3 t hk hfirst hent w3 hne
    refine Mt_of (by decide) (Nat.le_of_ble_eq_true rfl) (fun X ho hX hN hI => ?_)
    subst hX
    show Z X 0 [some (aR w)] [] u 0 0
    refine z_wf (fun hw => ?_)
    refine z_aload_n ho dX12_here_0 rfl ?_
    refine gX12_38 ho dX12_here_1 hk ?_
    refine z_ifnull (tgt := 14) ho dX12_here_4 (by decide) (fun c4 => ?_) (fun c4 => ?_)
    · 
      refine z_aload_n ho dX12_here_14 rfl ?_
      refine gX12_41 ho dX12_here_15 hk ?_
      refine kX12_66 ho hN (hfirst _ _ _ _ w3) dX12_here_18 (by omega) (Nat.le_of_ble_eq_true rfl) (Nat.le_of_ble_eq_true rfl) (Nat.le_of_ble_eq_true rfl) (fun x18 u18 h18 => ?_)
      obtain ⟨rfl, rfl⟩ := h18
      refine r_R ho dX12_here_21 (Nat.le_of_ble_eq_true rfl) (Nat.le_of_ble_eq_true rfl) ?_
      rcases hent with ⟨-, rfl⟩ | ⟨h1, -, -⟩
      · exact ⟨rfl, rfl⟩
      · exact absurd c4 (h1.ne0 hw)
    · 
      refine z_aload_n ho dX12_here_7 rfl ?_
      refine gX12_38 ho dX12_here_8 hk ?_
      refine z_goto (tgt := 21) ho dX12_here_11 (by decide) ?_
      refine r_R ho dX12_here_21 (Nat.le_of_ble_eq_true rfl) (Nat.le_of_ble_eq_true rfl) ?_
      rcases hent with ⟨h0, -⟩ | ⟨-, -, rfl⟩
      · exact absurd h0 c4
      · exact ⟨rfl, rfl⟩
  intro n
  induction n with
  | zero =>
    rintro w p es fp ⟨rfl, rfl, rfl⟩
    refine Mt_of (by decide) (Nat.le_of_ble_eq_true rfl) (fun X ho hX hN hI => ?_)
    subst hX
    show Z X 0 [some (aR 0), none] [] u 0 0
    refine z_aload_n ho dX12_first_0 rfl ?_
    refine z_astore_n ho dX12_first_1 (Nat.le_of_ble_eq_true rfl) rfl ?_
    refine z_aload_n ho dX12_first_2 rfl ?_
    refine z_ifnonnull (tgt := 8) ho dX12_first_3 (by decide) (fun c3 => ?_) (fun c3 => ?_)
    · exact absurd rfl c3
    · 
      refine z_null ho dX12_first_6 ?_
      refine r_R ho dX12_first_7 (Nat.le_of_ble_eq_true rfl) (Nat.le_of_ble_eq_true rfl) ?_
      exact ⟨rfl, rfl⟩
  | succ n ih =>
    intro w p es fp h
    refine Mt_of (by decide) (Nat.le_of_ble_eq_true rfl) (fun X ho hX hN hI => ?_)
    subst hX
    show Z X 0 [some (aR w), none] [] u 0 0
    refine z_wf (fun hw => ?_)
    refine z_aload_n ho dX12_first_0 rfl ?_
    refine z_astore_n ho dX12_first_1 (Nat.le_of_ble_eq_true rfl) rfl ?_
    refine z_aload_n ho dX12_first_2 rfl ?_
    refine z_ifnonnull (tgt := 8) ho dX12_first_3 (by decide) (fun c3 => ?_) (fun c3 => ?_)
    · 
      have key : ∀ (m w' : Nat) (p : List Int) (es' fp' : List Nat), m ≤ n + 1 → w' ≠ 0 → WT u m p w' es' fp' → es.head? = es'.head? → Z X 8 [some (aR w), some (aR w')] [] u 0 0 := by
        intro m
        induction m with
        | zero => rintro w' p es' fp' - h0 ⟨rfl, -⟩; exact absurd rfl h0
        | succ m ihm =>
          intro w' p es' fp' hm h0 h hh
          obtain ⟨m', hm', hk, -, -, es1, es2, es3, es4, fp1, fp3, fp4, w1, w3, w4, hent, rfl, rfl, hne, -⟩ := WT.node h h0
          obtain rfl : m = m' := by omega
          refine z_aload_n ho dX12_first_8 rfl ?_
          refine gX12_32 ho dX12_first_9 hk ?_
          refine z_ifnull (tgt := 23) ho dX12_first_12 (by decide) (fun c12 => ?_) (fun c12 => ?_)
          · have : es1 = [] := by rw [c12] at w1; exact (w1.of0 hw).1
            refine z_aload_n ho dX12_first_23 rfl ?_
            refine kX12_62 ho hN (here n w' es2 es3 fp3 _ hk (fun p w es fp => ih w p es fp) hent (WT.mono _ _ _ _ _ _ w3 (by omega)) hne) dX12_first_24 (by omega) (Nat.le_of_ble_eq_true rfl) (Nat.le_of_ble_eq_true rfl) (Nat.le_of_ble_eq_true rfl) (fun x24 u24 h24 => ?_)
            obtain ⟨rfl, rfl⟩ := h24
            refine r_R ho dX12_first_27 (Nat.le_of_ble_eq_true rfl) (Nat.le_of_ble_eq_true rfl) ?_
            refine ⟨rfl, ?_⟩
            rw [hh, this]
            show _ = (es2 ++ (es3 ++ es4)).head?.getD 0
            rw [← List.append_assoc]
            cases hq : es2 ++ es3 with
            | nil => exact absurd hq hne
            | cons x l => rfl
          · 
            refine z_aload_n ho dX12_first_15 rfl ?_
            refine gX12_32 ho dX12_first_16 hk ?_
            refine z_astore_n ho dX12_first_19 (Nat.le_of_ble_eq_true rfl) rfl ?_
            refine z_goto (tgt := 8) ho dX12_first_20 (by decide) ?_
            refine ihm _ _ _ _ (by omega) c12 w1 ?_
            have := ((WT.mem _ _ _ _ _ w1).2.2 c12).1
            rw [hh]
            cases es1 with
            | nil => exact absurd rfl this
            | cons x l => rfl
      exact key (n + 1) w p es fp (Nat.le_refl _) c3 h rfl
    · 
      refine z_null ho dX12_first_6 ?_
      refine r_R ho dX12_first_7 (Nat.le_of_ble_eq_true rfl) (Nat.le_of_ble_eq_true rfl) ?_
      subst c3
      exact ⟨rfl, by rw [(h.of0 hw).1]; rfl⟩
theorem c_here (l : Launch) (u : Mem) {n w : Nat} {es2 es3 fp3 : List Nat} {t : List Int} (hk : kd_ u w = 17) (hent : Ent u (rv_ u w 4) t es2) (w3 : WT u n t (rv_ u w 2) es3 fp3) :
    Mt_ l yX12_here cX12_here 1 (some (.object "KeyHall$Entry")) (2 * n + 1) 0 0 [aR w] u (qR fun r u' => u = u' ∧ r = (es2 ++ es3).head?.getD 0) := by
  refine Mt_of (by decide) (Nat.le_of_ble_eq_true rfl) (fun X ho hX hN hI => ?_)
  subst hX
  show Z X 0 [some (aR w)] [] u 0 0
  refine z_wf (fun hw => ?_)
  refine z_aload_n ho dX12_here_0 rfl ?_
  refine gX12_38 ho dX12_here_1 hk ?_
  refine z_ifnull (tgt := 14) ho dX12_here_4 (by decide) (fun c4 => ?_) (fun c4 => ?_)
  · 
    refine z_aload_n ho dX12_here_14 rfl ?_
    refine gX12_41 ho dX12_here_15 hk ?_
    refine kX12_66 ho hN (c_first_here _ _ _ _ _ _ _ w3) dX12_here_18 (by omega) (Nat.le_of_ble_eq_true rfl) (Nat.le_of_ble_eq_true rfl) (Nat.le_of_ble_eq_true rfl) (fun x18 u18 h18 => ?_)
    obtain ⟨rfl, rfl⟩ := h18
    refine r_R ho dX12_here_21 (Nat.le_of_ble_eq_true rfl) (Nat.le_of_ble_eq_true rfl) ?_
    rcases hent with ⟨-, rfl⟩ | ⟨h1, -, -⟩
    · exact ⟨rfl, rfl⟩
    · exact absurd c4 (h1.ne0 hw)
  · 
    refine z_aload_n ho dX12_here_7 rfl ?_
    refine gX12_38 ho dX12_here_8 hk ?_
    refine z_goto (tgt := 21) ho dX12_here_11 (by decide) ?_
    refine r_R ho dX12_here_21 (Nat.le_of_ble_eq_true rfl) (Nat.le_of_ble_eq_true rfl) ?_
    rcases hent with ⟨h0, -⟩ | ⟨-, -, rfl⟩
    · exact absurd h0 c4
    · exact ⟨rfl, rfl⟩
theorem c_last (l : Launch) (u : Mem) : ∀ (n w : Nat) (p : List Int) (es fp : List Nat), WT u n p w es fp →
    Mt_ l yX12_last cX12_last 2 (some (.object "KeyHall$Entry")) n 0 0 [aR w] u (qR fun r u' => u = u' ∧ r = es.getLast?.getD 0) := by
  intro n
  induction n with
  | zero =>
    rintro w p es fp ⟨rfl, rfl, rfl⟩
    refine Mt_of (by decide) (Nat.le_of_ble_eq_true rfl) (fun X ho hX hN hI => ?_)
    subst hX
    show Z X 0 [some (aR 0), none] [] u 0 0
    refine z_aload_n ho dX12_last_0 rfl ?_
    refine z_astore_n ho dX12_last_1 (Nat.le_of_ble_eq_true rfl) rfl ?_
    refine z_aload_n ho dX12_last_2 rfl ?_
    refine z_ifnonnull (tgt := 8) ho dX12_last_3 (by decide) (fun c3 => ?_) (fun c3 => ?_)
    · exact absurd rfl c3
    · 
      refine z_null ho dX12_last_6 ?_
      refine r_R ho dX12_last_7 (Nat.le_of_ble_eq_true rfl) (Nat.le_of_ble_eq_true rfl) ?_
      exact ⟨rfl, rfl⟩
  | succ n ih =>
    intro w p es fp h
    refine Mt_of (by decide) (Nat.le_of_ble_eq_true rfl) (fun X ho hX hN hI => ?_)
    subst hX
    show Z X 0 [some (aR w), none] [] u 0 0
    refine z_wf (fun hw => ?_)
    refine z_aload_n ho dX12_last_0 rfl ?_
    refine z_astore_n ho dX12_last_1 (Nat.le_of_ble_eq_true rfl) rfl ?_
    refine z_aload_n ho dX12_last_2 rfl ?_
    refine z_ifnonnull (tgt := 8) ho dX12_last_3 (by decide) (fun c3 => ?_) (fun c3 => ?_)
    · 
      have key : ∀ (m w' : Nat) (p : List Int) (es' fp' : List Nat), m ≤ n + 1 → w' ≠ 0 → WT u m p w' es' fp' → es.getLast? = es'.getLast? → Z X 8 [some (aR w), some (aR w')] [] u 0 0 := by
        intro m
        induction m with
        | zero => rintro w' p es' fp' - h0 ⟨rfl, -⟩; exact absurd rfl h0
        | succ m ihm =>
          intro w' p es' fp' hm h0 h hh
          obtain ⟨m', hm', hk, -, -, es1, es2, es3, es4, fp1, fp3, fp4, w1, w3, w4, hent, rfl, rfl, hne, -⟩ := WT.node h h0
          obtain rfl : m = m' := by omega
          refine z_aload_n ho dX12_last_8 rfl ?_
          refine gX12_35 ho dX12_last_9 hk ?_
          refine z_ifnull (tgt := 23) ho dX12_last_12 (by decide) (fun c12 => ?_) (fun c12 => ?_)
          · have e4 : es4 = [] := by rw [c12] at w4; exact (w4.of0 hw).1
            subst e4
            refine z_aload_n ho dX12_last_23 rfl ?_
            refine gX12_41 ho dX12_last_24 hk ?_
            refine z_ifnull (tgt := 40) ho dX12_last_27 (by decide) (fun c27 => ?_) (fun c27 => ?_)
            · 
              refine z_aload_n ho dX12_last_40 rfl ?_
              refine gX12_38 ho dX12_last_41 hk ?_
              refine r_R ho dX12_last_44 (Nat.le_of_ble_eq_true rfl) (Nat.le_of_ble_eq_true rfl) ?_
              refine ⟨rfl, ?_⟩
              have e3 : es3 = [] := by rw [c27] at w3; exact (w3.of0 hw).1
              subst e3
              rcases hent with ⟨h0, rfl⟩ | ⟨h1, -, rfl⟩
              · exact absurd rfl hne
              · rw [hh]; simp
            · 
              refine z_aload_n ho dX12_last_30 rfl ?_
              refine gX12_41 ho dX12_last_31 hk ?_
              refine kX12_69 ho hN (ih _ _ _ _ (WT.mono _ _ _ _ _ _ w3 (by omega))) dX12_last_34 (by omega) (Nat.le_of_ble_eq_true rfl) (Nat.le_of_ble_eq_true rfl) (Nat.le_of_ble_eq_true rfl) (fun x34 u34 h34 => ?_)
              obtain ⟨rfl, rfl⟩ := h34
              refine z_goto (tgt := 44) ho dX12_last_37 (by decide) ?_
              refine r_R ho dX12_last_44 (Nat.le_of_ble_eq_true rfl) (Nat.le_of_ble_eq_true rfl) ?_
              refine ⟨rfl, ?_⟩
              have := ((WT.mem _ _ _ _ _ w3).2.2 c27).1
              rw [hh]
              simp only [List.append_nil, List.getLast?_append]
              cases hq : es3.getLast? with
              | none => exact absurd (List.getLast?_eq_none_iff.mp hq) this
              | some x => rfl
          · 
            refine z_aload_n ho dX12_last_15 rfl ?_
            refine gX12_35 ho dX12_last_16 hk ?_
            refine z_astore_n ho dX12_last_19 (Nat.le_of_ble_eq_true rfl) rfl ?_
            refine z_goto (tgt := 8) ho dX12_last_20 (by decide) ?_
            refine ihm _ _ _ _ (by omega) c12 w4 ?_
            have := ((WT.mem _ _ _ _ _ w4).2.2 c12).1
            rw [hh]
            simp only [List.getLast?_append]
            cases hq : es4.getLast? with
            | none => exact absurd (List.getLast?_eq_none_iff.mp hq) this
            | some x => rfl
      exact key (n + 1) w p es fp (Nat.le_refl _) c3 h rfl
    · 
      refine z_null ho dX12_last_6 ?_
      refine r_R ho dX12_last_7 (Nat.le_of_ble_eq_true rfl) (Nat.le_of_ble_eq_true rfl) ?_
      subst c3
      exact ⟨rfl, by rw [(h.of0 hw).1]; rfl⟩
