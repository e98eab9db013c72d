set_option maxRecDepth 100000
/-! ===== plain laws: texts by their bytes ===== -/
def ocL : List Int → List Int
  | [] => []
  | c :: s => c / 256 :: c % 256 :: ocL s
theorem ocL_len (s : List Int) : (ocL s).length = 2 * s.length := by
  induction s with
  | nil => rfl
  | cons c s ih => simp [ocL, ih]; omega
theorem ocL_get (s : List Int) : ∀ i : Int, 0 ≤ i → i < 2 * (s.length : Int) → (ocL s)[i.toNat]? = some (octL s i) := by
  induction s with
  | nil => intro i h0 h1; simp at h1; omega
  | cons c s ih =>
    intro i h0 h1
    simp only [List.length_cons] at h1
    by_cases h2 : i = 0
    · subst h2; rfl
    · by_cases h3 : i = 1
      · subst h3; rfl
      · have := ih (i - 2) (by omega) (by omega)
        have e : i.toNat = (i - 2).toNat + 1 + 1 := by omega
        rw [e]
        show (ocL s)[(i - 2).toNat]? = _
        rw [this]
        unfold octL
        have e2 : ch s ((i - 2) / 2) = ch (c :: s) (i / 2) := by
          unfold ch
          rw [show (i / 2).toNat = ((i - 2) / 2).toNat + 1 by omega]
          rfl
        rw [e2, show (i - 2) % 2 = i % 2 by omega]
theorem ocL_rng {s : List Int} (h : Tx s) : ∀ b ∈ ocL s, 0 ≤ b ∧ b < 256 := by
  have : ∀ s : List Int, (∀ c ∈ s, 0 ≤ c ∧ c < 65536) → ∀ b ∈ ocL s, 0 ≤ b ∧ b < 256 := by
    intro s
    induction s with
    | nil => intro _ b hb; simp [ocL] at hb
    | cons c s ih =>
      intro h b hb
      have hc := h c List.mem_cons_self
      simp only [ocL, List.mem_cons] at hb
      rcases hb with rfl | rfl | hb
      · omega
      · omega
      · exact ih (fun x hx => h x (List.mem_cons_of_mem _ hx)) b hb
  exact this s h.2
theorem ocL_inj : ∀ (s t : List Int), ocL s = ocL t → s = t := by
  intro s
  induction s with
  | nil => intro t h; cases t with
    | nil => rfl
    | cons d t => simp [ocL] at h
  | cons c s ih => intro t h; cases t with
    | nil => simp [ocL] at h
    | cons d t =>
      simp only [ocL, List.cons.injEq] at h
      rw [ih t h.2.2, show c = d by omega]
theorem ocL_lt : ∀ (s t : List Int), s < t → ocL s < ocL t := by
  intro s
  induction s with
  | nil => intro t h; cases t with
    | nil => exact absurd h (li_irr _)
    | cons d t => exact lt_nil _ _
  | cons c s ih => intro t h; cases t with
    | nil => exact absurd h (List.not_lt_nil _)
    | cons d t =>
      rcases List.cons_lt_cons_iff.mp h with q | ⟨rfl, q⟩
      · show c / 256 :: c % 256 :: ocL s < d / 256 :: d % 256 :: ocL t
        by_cases hq : c / 256 < d / 256
        · exact List.Lex.rel hq
        · have e : c / 256 = d / 256 := by omega
          rw [e]
          exact List.Lex.cons (List.Lex.rel (by omega))
      · exact List.Lex.cons (List.Lex.cons (ih t q))
theorem ocL_iff {s t : List Int} (hs : Tx s) (ht : Tx t) : s < t ↔ ocL s < ocL t := by
  refine ⟨ocL_lt s t, fun h => ?_⟩
  rcases li_tri s t hs ht with q | q | q
  · exact q
  · rw [q] at h; exact absurd h (li_irr _)
  · exact absurd h (li_as (ocL_lt t s q))
/-- the bytes of a key -/
def oc (u : Mem) (a : Nat) : List Int := ocL (tx u a)
theorem oc_inj {u : Mem} {a b : Nat} : oc u a = oc u b ↔ tx u a = tx u b := ⟨fun h => ocL_inj _ _ h, fun h => by unfold oc; rw [h]⟩
theorem Ky.oc_lt {u : Mem} {a b : Nat} (ha : Ky u a) (hb : Ky u b) : tx u a < tx u b ↔ oc u a < oc u b := ocL_iff ha.Tx hb.Tx
theorem Ky.oc_len {u : Mem} {a : Nat} (ha : Ky u a) : ((oc u a).length : Int) = 2 * ((tx u a).length : Int) ∧ (oc u a).length ≤ 16 := by
  unfold oc
  rw [ocL_len]
  have := ha.Tx.1
  omega
/-! ===== fans: bytes with twigs in order ===== -/
def Srt (xs : List (Int × Nat)) : Prop := xs.Pairwise (fun a b => a.1 < b.1) ∧ ∀ x ∈ xs, 0 ≤ x.1 ∧ x.1 < 256 ∧ x.2 ≠ 0
/-- the twig of a byte -/
def lk (b : Int) : List (Int × Nat) → Nat
  | [] => 0
  | x :: xs => if x.1 = b then x.2 else lk b xs
def ins (b : Int) (t : Nat) : List (Int × Nat) → List (Int × Nat)
  | [] => [(b, t)]
  | x :: xs => if x.1 < b then x :: ins b t xs else (b, t) :: x :: xs
def del (b : Int) (xs : List (Int × Nat)) : List (Int × Nat) := xs.filter (fun x => decide (x.1 ≠ b))
theorem lk_mem {b : Int} : ∀ {xs : List (Int × Nat)}, lk b xs ≠ 0 → (b, lk b xs) ∈ xs := by
  intro xs
  induction xs with
  | nil => intro h; exact absurd rfl h
  | cons x xs ih =>
    intro h
    unfold lk at h ⊢
    by_cases e : x.1 = b
    · rw [if_pos e, ← e]; exact List.mem_cons_self
    · rw [if_neg e] at h ⊢; exact List.mem_cons_of_mem _ (ih h)
theorem lk_of {xs : List (Int × Nat)} (hs : Srt xs) {b : Int} {t : Nat} (h : (b, t) ∈ xs) : lk b xs = t := by
  obtain ⟨hs, -⟩ := hs
  induction xs with
  | nil => simp at h
  | cons x xs ih =>
    obtain ⟨h1, h2⟩ := List.pairwise_cons.mp hs
    unfold lk
    rcases List.mem_cons.mp h with rfl | q
    · rw [if_pos rfl]
    · have := h1 _ q
      rw [if_neg (by omega)]
      exact ih q h2
theorem lk_0 {xs : List (Int × Nat)} (hs : Srt xs) {b : Int} : lk b xs = 0 ↔ ∀ x ∈ xs, x.1 ≠ b := by
  constructor
  · intro h x hx e
    have := lk_of hs (b := b) (t := x.2) (by rw [← e]; exact hx)
    exact (hs.2 x hx).2.2 (this.symm.trans h)
  · intro h
    by_cases hq : lk b xs = 0
    · exact hq
    · exact absurd rfl (h _ (lk_mem hq))
theorem Srt.nil : Srt [] := ⟨List.Pairwise.nil, fun x hx => by simp at hx⟩
theorem ins_split {b : Int} {t : Nat} : ∀ {A B : List (Int × Nat)}, (∀ x ∈ A, x.1 < b) → (∀ x ∈ B, b < x.1) → ins b t (A ++ B) = A ++ (b, t) :: B := by
  intro A
  induction A with
  | nil =>
    intro B _ hB
    cases B with
    | nil => rfl
    | cons x B =>
      have := hB x List.mem_cons_self
      show (if x.1 < b then x :: ins b t B else (b, t) :: x :: B) = _
      rw [if_neg (by omega)]; rfl
  | cons x A ih =>
    intro B hA hB
    show (if x.1 < b then x :: ins b t (A ++ B) else (b, t) :: x :: (A ++ B)) = _
    rw [if_pos (hA x List.mem_cons_self), ih (fun y hy => hA y (List.mem_cons_of_mem _ hy)) hB]; rfl
theorem Srt.cut {xs : List (Int × Nat)} (hs : Srt xs) {b : Int} (hb : ∀ x ∈ xs, x.1 ≠ b) : ∃ A B, xs = A ++ B ∧ (∀ x ∈ A, x.1 < b) ∧ (∀ x ∈ B, b < x.1) := by
  obtain ⟨hs, -⟩ := hs
  induction xs with
  | nil => exact ⟨[], [], rfl, fun x h => by simp at h, fun x h => by simp at h⟩
  | cons x xs ih =>
    obtain ⟨h1, h2⟩ := List.pairwise_cons.mp hs
    by_cases hx : x.1 < b
    · obtain ⟨A, B, rfl, hA, hB⟩ := ih (fun y hy => hb y (List.mem_cons_of_mem _ hy)) h2
      refine ⟨x :: A, B, rfl, fun y hy => ?_, hB⟩
      rcases List.mem_cons.mp hy with rfl | q
      · exact hx
      · exact hA y q
    · have := hb x List.mem_cons_self
      refine ⟨[], x :: xs, rfl, fun y h => by simp at h, fun y hy => ?_⟩
      rcases List.mem_cons.mp hy with rfl | q
      · omega
      · have := h1 y q; omega
theorem mem_ins {b : Int} {t : Nat} {xs : List (Int × Nat)} {y : Int × Nat} : y ∈ ins b t xs ↔ y ∈ xs ∨ y = (b, t) := by
  induction xs with
  | nil => simp [ins]
  | cons x xs ih =>
    unfold ins
    split
    · rw [List.mem_cons, ih, List.mem_cons]
      constructor
      · rintro (q | q | q)
        · exact Or.inl (Or.inl q)
        · exact Or.inl (Or.inr q)
        · exact Or.inr q
      · rintro ((q | q) | q)
        · exact Or.inl q
        · exact Or.inr (Or.inl q)
        · exact Or.inr (Or.inr q)
    · rw [List.mem_cons]; exact or_comm
theorem len_ins (b : Int) (t : Nat) (xs : List (Int × Nat)) : (ins b t xs).length = xs.length + 1 := by
  induction xs with
  | nil => rfl
  | cons x xs ih =>
    unfold ins
    split
    · simp [ih]
    · simp
theorem Srt.ins {xs : List (Int × Nat)} (hs : Srt xs) {b : Int} {t : Nat} (hb : ∀ x ∈ xs, x.1 ≠ b) (h0 : 0 ≤ b) (h1 : b < 256) (ht : t ≠ 0) : Srt (ins b t xs) := by
  refine ⟨?_, fun x hx => ?_⟩
  · obtain ⟨A, B, rfl, hA, hB⟩ := hs.cut hb
    rw [ins_split hA hB]
    obtain ⟨p1, p2, p3⟩ := List.pairwise_append.mp hs.1
    refine List.pairwise_append.mpr ⟨p1, List.pairwise_cons.mpr ⟨hB, p2⟩, fun x hx y hy => ?_⟩
    rcases List.mem_cons.mp hy with rfl | q
    · exact hA x hx
    · exact p3 x hx y q
  · rcases mem_ins.mp hx with q | rfl
    · exact hs.2 x q
    · exact ⟨h0, h1, ht⟩
theorem mem_del {b : Int} {xs : List (Int × Nat)} {y : Int × Nat} : y ∈ del b xs ↔ y ∈ xs ∧ y.1 ≠ b := by
  unfold del
  rw [List.mem_filter]
  simp
theorem Srt.del {xs : List (Int × Nat)} (hs : Srt xs) (b : Int) : Srt (del b xs) := ⟨hs.1.filter _, fun x hx => hs.2 x (mem_del.mp hx).1⟩
/-- the answer of upTo -/
def Upt (b : Int) (xs : List (Int × Nat)) (r : Int) : Prop := (r = -1 ∧ ∀ x ∈ xs, b < x.1) ∨ (∃ A x B, xs = A ++ x :: B ∧ r = x.1 ∧ x.1 ≤ b ∧ ∀ y ∈ B, b < y.1)
def Frm (b : Int) (xs : List (Int × Nat)) (r : Int) : Prop := (r = -1 ∧ ∀ x ∈ xs, x.1 < b) ∨ (∃ A x B, xs = A ++ x :: B ∧ r = x.1 ∧ b ≤ x.1 ∧ ∀ y ∈ A, y.1 < b)
