set_option maxRecDepth 100000
/-! ===== plain laws: the order of texts by their bits ===== -/
theorem bitL_nil (i : Int) (h : 0 ≤ i) : bitL [] i = 0 := by
  unfold bitL
  rw [if_pos (by simp; omega)]
theorem bitL_cons0 (c : Int) (s : List Int) : bitL (c :: s) 0 = 1 := by
  unfold bitL
  rw [if_neg (by simp), if_pos (by omega)]
theorem bitL_consc (c : Int) (s : List Int) {i : Int} (h0 : 0 < i) (h1 : i < 17) : bitL (c :: s) i = c / 2 ^ (16 - i).toNat % 2 := by
  unfold bitL
  rw [if_neg (by simp; omega), if_neg (by omega), show i / 17 = 0 by omega, show i % 17 = i by omega]
  rfl
theorem bitL_conss (c : Int) (s : List Int) {i : Int} (h0 : 0 ≤ i) : bitL (c :: s) (i + 17) = bitL s i := by
  unfold bitL
  rw [show (i + 17) / 17 = i / 17 + 1 by omega, show (i + 17) % 17 = i % 17 by omega]
  have e : ch (c :: s) (i / 17 + 1) = ch s (i / 17) := by
    unfold ch
    rw [show (i / 17 + 1).toNat = (i / 17).toNat + 1 by omega]
    rfl
  rw [e]
  by_cases h : (s.length : Int) ≤ i / 17
  · rw [if_pos h, if_pos (by simp; omega)]
  · rw [if_neg h, if_neg (by simp; omega)]
theorem bitL_01 (s : List Int) (i : Int) : bitL s i = 0 ∨ bitL s i = 1 := by
  unfold bitL
  split
  · exact Or.inl rfl
  · split
    · exact Or.inr rfl
    · omega
theorem bitL_hi {s : List Int} (h : s.length ≤ 8) {i : Int} (hi : 136 ≤ i) : bitL s i = 0 := by
  unfold bitL
  rw [if_pos (by omega)]
/-- the first bit in which two texts differ -/
def fdf (s t : List Int) (i : Int) : Prop := 0 ≤ i ∧ (∀ j, 0 ≤ j → j < i → bitL s j = bitL t j) ∧ bitL s i ≠ bitL t i
theorem fdf.symm {s t : List Int} {i : Int} (h : fdf s t i) : fdf t s i := ⟨h.1, fun j a b => (h.2.1 j a b).symm, fun e => h.2.2 e.symm⟩
theorem fdf.uniq {s t : List Int} {i j : Int} (h : fdf s t i) (h' : fdf s t j) : i = j := by
  rcases Int.lt_trichotomy i j with q | q | q
  · exact absurd (h'.2.1 i h.1 q) h.2.2
  · exact q
  · exact absurd (h.2.1 j h'.1 q) h'.2.2
theorem half_pow (c : Int) (m : Nat) : c / 2 ^ (m + 1) = c / 2 ^ m / 2 := by
  rw [Int.pow_succ, Int.ediv_ediv_of_nonneg (Int.le_of_lt (Int.pow_pos (by decide)))]
/-- numbers of 16 bits that agree in the bits above -/
theorem high_eq {c d : Int} (hc : 0 ≤ c) (hc' : c < 65536) (hd : 0 ≤ d) (hd' : d < 65536) : ∀ (k : Nat), k ≤ 16 → (∀ j : Int, 0 < j → j ≤ k → c / 2 ^ (16 - j).toNat % 2 = d / 2 ^ (16 - j).toNat % 2) → c / 2 ^ (16 - k) = d / 2 ^ (16 - k) := by
  intro k
  induction k with
  | zero =>
    intro _ _
    show c / 65536 = d / 65536
    omega
  | succ k ih =>
    intro hk h
    have h1 := ih (by omega) (fun j h0 h1 => h j h0 (by omega))
    have h2 := h ((k : Int) + 1) (by omega) (by omega)
    have e1 : (16 - ((k : Int) + 1)).toNat = 16 - (k + 1) := by omega
    rw [e1] at h2
    have e2 : 16 - k = (16 - (k + 1)) + 1 := by omega
    rw [e2, half_pow, half_pow] at h1
    omega
theorem fdf_lt : ∀ (s t : List Int) (i : Int), Tx s → Tx t → fdf s t i → bitL s i = 0 → s < t := by
  intro s
  induction s with
  | nil =>
    intro t i _ _ h h0
    cases t with
    | nil => exact absurd rfl h.2.2
    | cons d t => exact List.Lex.nil
  | cons c s ih =>
    intro t i hs ht h h0
    cases t with
    | nil =>
      have : i = 0 := by
        rcases Int.lt_or_lt_of_ne (show i ≠ 0 from fun e => by rw [e, bitL_cons0] at h0; omega) with q | q
        · have := h.1; omega
        · have := h.2.1 0 (by omega) q
          rw [bitL_cons0, bitL_nil 0 (by omega)] at this
          omega
      rw [this, bitL_cons0] at h0
      omega
    | cons d t =>
      have hc := hs.2 c List.mem_cons_self
      have hd := ht.2 d List.mem_cons_self
      have hi0 : i ≠ 0 := fun e => by rw [e, bitL_cons0] at h0; omega
      have hi := h.1
      by_cases h17 : i < 17
      · have hh := high_eq hc.1 hc.2 hd.1 hd.2 (i.toNat - 1) (by omega) (fun j a b => by
          have := h.2.1 j (by omega) (by omega)
          rwa [bitL_consc c s a (by omega), bitL_consc d t a (by omega)] at this)
        have hb := h.2.2
        rw [bitL_consc c s (by omega) h17] at h0 hb
        rw [bitL_consc d t (by omega) h17] at hb
        have e1 : (16 - i).toNat = 16 - i.toNat := by omega
        have e2 : 16 - (i.toNat - 1) = (16 - i.toNat) + 1 := by omega
        rw [e1] at h0 hb
        rw [e2, half_pow, half_pow] at hh
        refine List.Lex.rel ?_
        have h5 : c / 2 ^ (16 - i.toNat) < d / 2 ^ (16 - i.toNat) := by omega
        rcases Int.lt_or_le c d with q | q
        · exact q
        · have := Int.ediv_le_ediv (c := (2 : Int) ^ (16 - i.toNat)) (Int.pow_pos (by decide)) q
          omega
      · have hcd : c = d := by
          have := high_eq hc.1 hc.2 hd.1 hd.2 16 (by omega) (fun j a b => by
            have := h.2.1 j (by omega) (by omega)
            rwa [bitL_consc c s a (by omega), bitL_consc d t a (by omega)] at this)
          simpa using this
        subst hcd
        have e : i = (i - 17) + 17 := by omega
        refine List.Lex.cons (ih t (i - 17) ⟨by have := hs.1; simp at this; omega, fun x hx => hs.2 x (List.mem_cons_of_mem _ hx)⟩ ⟨by have := ht.1; simp at this; omega, fun x hx => ht.2 x (List.mem_cons_of_mem _ hx)⟩ ⟨by omega, fun j a b => ?_, fun q => ?_⟩ ?_)
        · have := h.2.1 (j + 17) (by omega) (by omega)
          rwa [bitL_conss _ _ a, bitL_conss _ _ a] at this
        · apply h.2.2
          rw [e, bitL_conss _ _ (by omega), bitL_conss _ _ (by omega)]
          exact q
        · rw [e, bitL_conss _ _ (by omega)] at h0
          exact h0
/-- texts that differ differ in a bit -/
theorem bits_inj : ∀ (s t : List Int), Tx s → Tx t → (∀ j, 0 ≤ j → j < 136 → bitL s j = bitL t j) → s = t := by
  have key : ∀ (n : Nat) (s t : List Int), s.length ≤ n → t.length ≤ n → (∀ c ∈ s, 0 ≤ c ∧ c < 65536) → (∀ c ∈ t, 0 ≤ c ∧ c < 65536) → (∀ j : Int, 0 ≤ j → j < 17 * n → bitL s j = bitL t j) → s = t := by
    intro n
    induction n with
    | zero =>
      intro s t hs ht _ _ _
      rw [List.length_eq_zero_iff.mp (by omega : s.length = 0), List.length_eq_zero_iff.mp (by omega : t.length = 0)]
    | succ n ih =>
      intro s t hs ht vs vt h
      cases s with
      | nil =>
        cases t with
        | nil => rfl
        | cons d t =>
          have := h 0 (by omega) (by omega)
          rw [bitL_cons0, bitL_nil 0 (by omega)] at this
          omega
      | cons c s =>
        cases t with
        | nil =>
          have := h 0 (by omega) (by omega)
          rw [bitL_cons0, bitL_nil 0 (by omega)] at this
          omega
        | cons d t =>
          have hc := vs c List.mem_cons_self
          have hd := vt d List.mem_cons_self
          have hcd : c = d := by
            have := high_eq hc.1 hc.2 hd.1 hd.2 16 (by omega) (fun j a b => by
              have := h j (by omega) (by omega)
              rwa [bitL_consc c s a (by omega), bitL_consc d t a (by omega)] at this)
            simpa using this
          subst hcd
          rw [ih s t (by simp at hs; omega) (by simp at ht; omega) (fun x hx => vs x (List.mem_cons_of_mem _ hx)) (fun x hx => vt x (List.mem_cons_of_mem _ hx)) (fun j a b => by
            have := h (j + 17) (by omega) (by omega)
            rwa [bitL_conss _ _ a, bitL_conss _ _ a] at this)]
  intro s t hs ht h
  exact key 8 s t hs.1 ht.1 hs.2 ht.2 (fun j a b => h j a (by omega))
/-- the least of whole numbers from 0 on -/
theorem least_int {P : Int → Prop} {n : Int} (h0 : 0 ≤ n) (h : P n) : ∃ i, 0 ≤ i ∧ i ≤ n ∧ P i ∧ ∀ j, 0 ≤ j → j < i → ¬ P j := by
  have key : ∀ (k : Nat), (∀ j : Int, 0 ≤ j → j < k → ¬ P j) ∨ ∃ i : Int, 0 ≤ i ∧ i < k ∧ P i ∧ ∀ j, 0 ≤ j → j < i → ¬ P j := by
    intro k
    induction k with
    | zero => exact Or.inl (fun j a b => by omega)
    | succ k ih =>
      rcases ih with q | ⟨i, a, b, c, e⟩
      · by_cases hk : P (k : Int)
        · exact Or.inr ⟨k, by omega, by omega, hk, q⟩
        · exact Or.inl (fun j a b => by
            by_cases e : j = k
            · rw [e]; exact hk
            · exact q j a (by omega))
      · exact Or.inr ⟨i, a, by omega, c, e⟩
  rcases key (n.toNat + 1) with q | ⟨i, a, b, c, e⟩
  · exact absurd h (q n h0 (by omega))
  · exact ⟨i, a, by omega, c, e⟩
theorem fdf_ex {s t : List Int} (hs : Tx s) (ht : Tx t) (h : s ≠ t) : ∃ i, fdf s t i ∧ i < 136 := by
  have : ∃ n, 0 ≤ n ∧ n < 136 ∧ bitL s n ≠ bitL t n := by
    apply Classical.byContradiction
    intro hn
    apply h
    exact bits_inj s t hs ht (fun j a b => Classical.byContradiction fun q => hn ⟨j, a, b, q⟩)
  obtain ⟨n, h0, h1, h2⟩ := this
  obtain ⟨i, a, b, c, e⟩ := least_int (P := fun i => bitL s i ≠ bitL t i) h0 h2
  exact ⟨i, ⟨a, fun j x y => Classical.byContradiction fun q => e j x y q, c⟩, by omega⟩
theorem fdf_ne {s t : List Int} {i : Int} (h : fdf s t i) : s ≠ t := fun e => h.2.2 (by rw [e])
theorem fdf_hi {s t : List Int} {i : Int} (hs : Tx s) (ht : Tx t) (h : fdf s t i) : i < 136 := by
  rcases Int.lt_or_le i 136 with q | q
  · exact q
  · exact absurd (by rw [bitL_hi hs.1 q, bitL_hi ht.1 q]) h.2.2
theorem fdf_iff {s t : List Int} {i : Int} (hs : Tx s) (ht : Tx t) (h : fdf s t i) : (s < t ↔ bitL s i = 0) ∧ (t < s ↔ bitL s i = 1) := by
  have h1 := fdf_lt s t i hs ht h
  have h2 := fdf_lt t s i ht hs h.symm
  have h3 := h.2.2
  rcases bitL_01 s i with a | a <;> rcases bitL_01 t i with b | b
  · rw [a, b] at h3; exact absurd rfl h3
  · have := h1 a
    exact ⟨⟨fun _ => a, fun _ => this⟩, ⟨fun q => absurd q (li_as this), fun q => by omega⟩⟩
  · have := h2 b
    exact ⟨⟨fun q => absurd q (li_as this), fun q => by omega⟩, ⟨fun _ => a, fun _ => this⟩⟩
  · rw [a, b] at h3; exact absurd rfl h3
/-- two texts: less, equal, greater -/
theorem li_tri (s t : List Int) (hs : Tx s) (ht : Tx t) : s < t ∨ s = t ∨ t < s := by
  by_cases h : s = t
  · exact Or.inr (Or.inl h)
  · obtain ⟨i, hi, -⟩ := fdf_ex hs ht h
    have := fdf_iff hs ht hi
    rcases bitL_01 s i with a | a
    · exact Or.inl (this.1.mpr a)
    · exact Or.inr (Or.inr (this.2.mpr a))
/-! ===== Key.difference, copy, <init>; Entry ===== -/
theorem c_difference (l : Launch) (u : Mem) {a b : Nat} (ha : Ky u a) (hb : Ky u b) (hne : tx u a ≠ tx u b) : Mt_ l yX2_difference cX2_difference 3 (some .int) 1 0 0 [aR a, aR b] u (qI fun r u' => u = u' ∧ fdf (tx u a) (tx u b) r) := by
  obtain ⟨n, hn, hn136⟩ := fdf_ex ha.Tx hb.Tx hne
  refine Mt_of (by decide) (Nat.le_of_ble_eq_true rfl) (fun X ho hX hN hI => ?_)
  subst hX
  show Z X 0 [some (aR a), some (aR b), none] [] u 0 0
  refine z_iconst ho dX2_difference_0 ?_
  refine z_istore_n ho dX2_difference_1 (Nat.le_of_ble_eq_true rfl) rfl ?_
  refine up_ind (m := n) (P := fun i => 0 ≤ i → Z X 2 [some (aR a), some (aR b), some (aI i)] [] u 0 0) (fun i him ih h0 => ?_) 0 hn.1 (by omega)
  have hkb := hb.1
  have hK := ha.1
  have fin : ∀ (h : bitL (tx u a) i ≠ bitL (tx u b) i), fdf (tx u a) (tx u b) i := by
    intro h
    rcases Int.lt_trichotomy i n with q | q | q
    · exact absurd (hn.2.1 i h0 q) h
    · rw [q]; exact hn
    · omega
  have stp : ∀ (h : bitL (tx u a) i = bitL (tx u b) i), i < n := by
    intro h
    rcases Int.lt_or_le i n with q | q
    · exact q
    · have : i = n := by omega
      rw [this] at h
      exact absurd h hn.2.2
  have ra := bitL_01 (tx u a) i
  have rb := bitL_01 (tx u b) i
  refine z_aload_n ho dX2_difference_2 rfl ?_
  refine z_iload_n ho dX2_difference_3 rfl ?_
  refine kX2_30 ho hN (c_bit _ _ ha h0 (by omega)) dX2_difference_4 hK (Nat.le_of_ble_eq_true rfl) (Nat.le_of_ble_eq_true rfl) (Nat.le_of_ble_eq_true rfl) (Nat.le_of_ble_eq_true rfl) (fun x4 u4 h4 => ?_)
  obtain ⟨rfl, rfl⟩ := h4
  refine z_aload_n ho dX2_difference_7 rfl ?_
  refine z_iload_n ho dX2_difference_8 rfl ?_
  refine kX2_30 ho hN (c_bit _ _ hb h0 (by omega)) dX2_difference_9 hkb (Nat.le_of_ble_eq_true rfl) (Nat.le_of_ble_eq_true rfl) (Nat.le_of_ble_eq_true rfl) (Nat.le_of_ble_eq_true rfl) (fun x9 u9 h9 => ?_)
  obtain ⟨rfl, rfl⟩ := h9
  refine z_icmp_ne (tgt := 21) ho dX2_difference_12 (by decide) (by unfold rng; omega) (by unfold rng; omega) (fun c12 => ?_) (fun c12 => ?_)
  · 
    refine z_iload_n ho dX2_difference_21 rfl ?_
    refine r_I ho dX2_difference_22 (Nat.le_of_ble_eq_true rfl) (Nat.le_of_ble_eq_true rfl) ?_
    exact ⟨rfl, fin c12⟩
  · 
    refine z_iinc ho dX2_difference_15 rfl rfl ?_
    refine z_goto (tgt := 2) ho dX2_difference_18 (by decide) ?_
    exact ih (stp c12) (by omega)
