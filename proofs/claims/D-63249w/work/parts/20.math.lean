set_option maxRecDepth 100000
/-! ===== plain laws: texts as functions with a length ===== -/
/-- the first n values of f -/
def seg (f : Int → Int) (n : Nat) : List Int := (List.range n).map (fun (j : Nat) => f (j : Int))
theorem seg_len (f : Int → Int) (n : Nat) : (seg f n).length = n := by simp [seg]
theorem seg_get {f : Int → Int} {n j : Nat} (h : j < n) : (seg f n)[j]? = some (f j) := by simp [seg, h]
theorem seg_0 (f : Int → Int) : seg f 0 = [] := rfl
theorem seg_cons (f : Int → Int) (n : Nat) : seg f (n + 1) = f 0 :: seg (fun j => f (j + 1)) n := by
  unfold seg
  rw [List.range_succ_eq_map, List.map_cons, List.map_map]
  rfl
theorem seg_ext {f g : Int → Int} {n : Nat} (h : ∀ j : Int, 0 ≤ j → j < n → f j = g j) : seg f n = seg g n := by
  unfold seg
  apply List.map_congr_left
  intro j hj
  have := List.mem_range.mp hj
  exact h j (by omega) (by omega)
theorem seg_inj {f g : Int → Int} {n m : Nat} (h : seg f n = seg g m) : n = m ∧ ∀ j : Int, 0 ≤ j → j < n → f j = g j := by
  have hl : n = m := by have := congrArg List.length h; rwa [seg_len, seg_len] at this
  subst hl
  refine ⟨rfl, fun j h0 h1 => ?_⟩
  have h2 : j.toNat < n := by omega
  have := congrArg (fun l => l[j.toNat]?) h
  simp only [seg_get h2, Option.some.injEq] at this
  rwa [Int.toNat_of_nonneg h0] at this
theorem seg_lt_at : ∀ (i : Nat) {f g : Int → Int} {n m : Nat}, (∀ j : Int, 0 ≤ j → j < i → f j = g j) → i < n → i < m → f i < g i → seg f n < seg g m := by
  intro i
  induction i with
  | zero =>
    intro f g n m _ hn hm h
    obtain ⟨n, rfl⟩ : ∃ k, n = k + 1 := ⟨n - 1, by omega⟩
    obtain ⟨m, rfl⟩ : ∃ k, m = k + 1 := ⟨m - 1, by omega⟩
    rw [seg_cons, seg_cons]
    exact List.Lex.rel h
  | succ i ih =>
    intro f g n m he hn hm h
    obtain ⟨n, rfl⟩ : ∃ k, n = k + 1 := ⟨n - 1, by omega⟩
    obtain ⟨m, rfl⟩ : ∃ k, m = k + 1 := ⟨m - 1, by omega⟩
    rw [seg_cons, seg_cons, he 0 (by omega) (by omega)]
    refine List.Lex.cons (ih (fun j h0 h1 => he (j + 1) (by omega) (by omega)) (by omega) (by omega) ?_)
    simpa using h
theorem seg_lt_len : ∀ (n : Nat) {f g : Int → Int} {m : Nat}, (∀ j : Int, 0 ≤ j → j < n → f j = g j) → n < m → seg f n < seg g m := by
  intro n
  induction n with
  | zero =>
    intro f g m _ hm
    obtain ⟨m, rfl⟩ : ∃ k, m = k + 1 := ⟨m - 1, by omega⟩
    rw [seg_cons, seg_0]
    exact List.Lex.nil
  | succ n ih =>
    intro f g m he hm
    obtain ⟨m, rfl⟩ : ∃ k, m = k + 1 := ⟨m - 1, by omega⟩
    rw [seg_cons, seg_cons, he 0 (by omega) (by omega)]
    exact List.Lex.cons (ih (fun j h0 h1 => he (j + 1) (by omega) (by omega)) (by omega))
theorem li_irr (s : List Int) : ¬ s < s := List.lt_irrefl s
theorem li_tr {s t r : List Int} (h1 : s < t) (h2 : t < r) : s < r := List.lt_trans h1 h2
theorem li_as {s t : List Int} (h1 : s < t) : ¬ t < s := fun h2 => li_irr s (li_tr h1 h2)
/-- the order of two texts as a number -/
def cmpT (s t : List Int) : Int := if s = t then 0 else if s < t then -1 else 1
theorem cmpT_eq {s t : List Int} (h : s = t) : cmpT s t = 0 := if_pos h
theorem cmpT_lt {s t : List Int} (h : s < t) : cmpT s t = -1 := by
  unfold cmpT
  rw [if_neg (fun e => li_irr t (by rw [e] at h; exact h)), if_pos h]
theorem cmpT_gt {s t : List Int} (h : t < s) : cmpT s t = 1 := by
  unfold cmpT
  rw [if_neg (fun e => li_irr t (by rw [e] at h; exact h)), if_neg (li_as h)]
/-- a loop that counts up to m -/
theorem up_ind {m : Int} {P : Int → Prop} (h : ∀ i, i ≤ m → (i < m → P (i + 1)) → P i) : ∀ i, i ≤ m → P i := by
  have key : ∀ (n : Nat) (i : Int), i ≤ m → (m - i).toNat = n → P i := by
    intro n
    induction n with
    | zero => intro i hi hn; exact h i hi (fun hlt => by omega)
    | succ n ih => intro i hi hn; exact h i hi (fun hlt => ih (i + 1) (by omega) (by omega))
  exact fun i hi => key _ i hi rfl
/-- a loop that counts down to m -/
theorem down_ind {m : Int} {P : Int → Prop} (h : ∀ i, m ≤ i → (m < i → P (i - 1)) → P i) : ∀ i, m ≤ i → P i := by
  have key : ∀ (n : Nat) (i : Int), m ≤ i → (i - m).toNat = n → P i := by
    intro n
    induction n with
    | zero => intro i hi hn; exact h i hi (fun hlt => by omega)
    | succ n ih => intro i hi hn; exact h i hi (fun hlt => ih (i - 1) (by omega) (by omega))
  exact fun i hi => key _ i hi rfl
theorem mem_ext {u v : Mem} (h1 : sz_ u = sz_ v) (h2 : ∀ a, kd_ u a = kd_ v a) (h3 : ∀ a, ln_ u a = ln_ v a) (h4 : ∀ a i, iv_ u a i = iv_ v a i) (h5 : ∀ a i, rv_ u a i = rv_ v a i) : u = v := by
  obtain ⟨a1, a2, a3, a4, a5⟩ := u
  obtain ⟨b1, b2, b3, b4, b5⟩ := v
  have e1 : a1 = b1 := h1
  have e2 : a2 = b2 := funext h2
  have e3 : a3 = b3 := funext h3
  have e4 : a4 = b4 := funext fun a => funext fun i => h4 a i
  have e5 : a5 = b5 := funext fun a => funext fun i => h5 a i
  rw [e1, e2, e3, e4, e5]
