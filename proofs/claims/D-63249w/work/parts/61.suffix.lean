set_option maxRecDepth 100000
/-! ===== suffixes: plain laws ===== -/
theorem ltc {a b : Int} {s t : List Int} : a :: s < b :: t ↔ a < b ∨ (a = b ∧ s < t) := List.cons_lt_cons_iff
theorem tk_lt : ∀ {h m : Nat} {x y : List Int}, h ≤ m → x.take h < y.take h → x.take m < y.take m := by
  intro h
  induction h with
  | zero => intro m x y _ hl; simp at hl
  | succ h ih =>
    intro m x y hm hl
    obtain ⟨m, rfl⟩ : ∃ k, m = k + 1 := ⟨m - 1, by omega⟩
    cases x with
    | nil =>
      cases y with
      | nil => simp at hl
      | cons b y => simp
    | cons a x =>
      cases y with
      | nil => simp at hl
      | cons b y =>
        rw [List.take_succ_cons, List.take_succ_cons, ltc] at hl ⊢
        rcases hl with q | q
        · exact Or.inl q
        · exact Or.inr ⟨q.1, ih (by omega) q.2⟩
theorem app_ltl (s : List Int) {x y : List Int} : s ++ x < s ++ y ↔ x < y := by
  induction s with
  | nil => simp
  | cons a s ih =>
    rw [List.cons_append, List.cons_append, ltc]
    simp [ih]
def Kp (T : List Int) (h i : Nat) : List Int := (T.drop i).take h
theorem Kp_2 (T : List Int) (h i : Nat) : Kp T (2 * h) i = Kp T h i ++ Kp T h (i + h) := by
  unfold Kp
  rw [show 2 * h = h + h by omega, List.take_add, List.drop_drop]
/-- the order of ranks is that of h characters -/
def RK (T : List Int) (h : Nat) (rk : Int → Int) : Prop := ∀ i j : Nat, i < T.length → j < T.length → (rk (i : Int) < rk (j : Int) ↔ Kp T h i < Kp T h j)
def rkx (n : Nat) (rk : Int → Int) (i : Nat) : Int := if i < n then rk (i : Int) else -1
theorem tot_eq {x y : List Int} (h1 : ¬ x < y) (h2 : ¬ y < x) : x = y := List.le_antisymm h2 h1
theorem RK.next {T : List Int} {h : Nat} {rk : Int → Int} (hR : RK T h rk) (h0 : ∀ i : Nat, i < T.length → 0 ≤ rk (i : Int)) (h1 : 1 ≤ h) {a b : Nat} (ha : a < T.length) (hb : b < T.length) :
    (rk (a : Int) < rk (b : Int) ∨ (rk (a : Int) = rk (b : Int) ∧ rkx T.length rk (a + h) < rkx T.length rk (b + h))) ↔ Kp T (2 * h) a < Kp T (2 * h) b := by
  have up : ∀ {x y : Nat}, x < T.length → y < T.length → rk (x : Int) < rk (y : Int) → Kp T (2 * h) x < Kp T (2 * h) y := fun hx hy hlt => tk_lt (by omega) ((hR _ _ hx hy).mp hlt)
  have nil : ∀ x, T.length ≤ x → Kp T h x = [] := fun x hx => by unfold Kp; rw [List.drop_eq_nil_of_le hx]; simp
  have nn : ∀ x, x < T.length → Kp T h x ≠ [] := fun x hx z => by
    have := congrArg List.length z
    unfold Kp at this
    simp at this
    omega
  rcases Int.lt_trichotomy (rk (a : Int)) (rk (b : Int)) with q | q | q
  · exact ⟨fun _ => up ha hb q, fun _ => Or.inl q⟩
  · have e : Kp T h a = Kp T h b := tot_eq (fun z => by have := (hR a b ha hb).mpr z; omega) (fun z => by have := (hR b a hb ha).mpr z; omega)
    rw [Kp_2, Kp_2, e, app_ltl]
    have : rkx T.length rk (a + h) < rkx T.length rk (b + h) ↔ Kp T h (a + h) < Kp T h (b + h) := by
      unfold rkx
      by_cases z1 : a + h < T.length
      · by_cases z2 : b + h < T.length
        · rw [if_pos z1, if_pos z2]
          exact hR _ _ z1 z2
        · rw [if_pos z1, if_neg z2, nil (b + h) (by omega)]
          have := h0 (a + h) z1
          exact ⟨fun z => by omega, fun z => absurd z (List.not_lt_nil _)⟩
      · by_cases z2 : b + h < T.length
        · rw [if_neg z1, if_pos z2, nil (a + h) (by omega)]
          have := h0 (b + h) z2
          refine ⟨fun _ => ?_, fun _ => by omega⟩
          cases hk : Kp T h (b + h) with
          | nil => exact absurd hk (nn _ z2)
          | cons c s => simp
        · rw [if_neg z1, if_neg z2, nil (a + h) (by omega), nil (b + h) (by omega)]
          exact ⟨fun z => by omega, fun z => absurd z (List.not_lt_nil _)⟩
    rw [← this]
    exact ⟨fun z => by omega, fun z => Or.inr ⟨q, z⟩⟩
  · have := up hb ha q
    refine ⟨fun z => by omega, fun z => absurd (List.lt_trans z this) (List.lt_irrefl _)⟩
/-- ranks of a list in order -/
theorem fresh_law {T : List Int} {h : Nat} {SL : List Nat} {f : Int → Int} (hs : SL.Pairwise (fun x y => ¬ Kp T h y < Kp T h x)) (hf0 : ∀ x : Nat, SL[0]? = some x → f (x : Int) = 0)
    (hf : ∀ (k : Nat) x y, SL[k]? = some x → SL[k + 1]? = some y → f (y : Int) = f (x : Int) + (if Kp T h x < Kp T h y then 1 else 0)) :
    ∀ (k j : Nat) x y, SL[j]? = some x → SL[j + k]? = some y → f (x : Int) ≤ f (y : Int) ∧ f (y : Int) ≤ f (x : Int) + k ∧ (f (x : Int) < f (y : Int) ↔ Kp T h x < Kp T h y) := by
  intro k
  induction k with
  | zero =>
    intro j x y hx hy
    rw [Nat.add_zero, hx] at hy
    cases hy
    exact ⟨Int.le_refl _, by omega, ⟨fun z => by omega, fun z => absurd z (List.lt_irrefl _)⟩⟩
  | succ k ih =>
    intro j x y hx hy
    have hl := (List.getElem?_eq_some_iff.mp hy).1
    have hm : SL[j + k]? = some SL[j + k] := List.getElem?_eq_getElem (by omega)
    generalize SL[j + k] = m at hm
    obtain ⟨i1, i2, i3⟩ := ih j x m hx hm
    have e := hf (j + k) m y hm (by rw [show j + k + 1 = j + (k + 1) by omega]; exact hy)
    have hxm : ¬ Kp T h m < Kp T h x := by
      by_cases z : k = 0
      · subst z
        rw [Nat.add_zero, hx] at hm
        cases hm
        exact List.lt_irrefl _
      · have := List.pairwise_iff_getElem.mp hs j (j + k) (by omega) (by omega) (by omega)
        rw [(List.getElem?_eq_some_iff.mp hx).2, (List.getElem?_eq_some_iff.mp hm).2] at this
        exact this
    have hmy : ¬ Kp T h y < Kp T h m := by
      have := List.pairwise_iff_getElem.mp hs (j + k) (j + (k + 1)) (by omega) (by omega) (by omega)
      rw [(List.getElem?_eq_some_iff.mp hm).2, (List.getElem?_eq_some_iff.mp hy).2] at this
      exact this
    have lt_of : ∀ {a b c : List Int}, a < b → ¬ c < b → a < c := fun {a b c} h1 h2 => by
      rcases Classical.em (b < c) with z | z
      · exact List.lt_trans h1 z
      · rw [← tot_eq z h2]; exact h1
    have lt_of2 : ∀ {a b c : List Int}, ¬ b < a → b < c → a < c := fun {a b c} h1 h2 => by
      rcases Classical.em (a < b) with z | z
      · exact List.lt_trans z h2
      · rw [tot_eq z h1]; exact h2
    by_cases z : Kp T h m < Kp T h y
    · rw [if_pos z] at e
      exact ⟨by omega, by omega, ⟨fun _ => lt_of2 hxm z, fun _ => by omega⟩⟩
    · rw [if_neg z] at e
      have em : Kp T h m = Kp T h y := tot_eq z hmy
      exact ⟨by omega, by omega, by rw [← em, ← i3, e, Int.add_zero]⟩
theorem mem_ix {SL : List Nat} {n : Nat} (hp : SL.Perm (List.range n)) {x : Nat} (hx : x < n) : ∃ k, SL[k]? = some x ∧ k < n := by
  have : x ∈ SL := hp.mem_iff.mpr (List.mem_range.mpr hx)
  obtain ⟨k, hk, e⟩ := List.mem_iff_getElem.mp this
  have := hp.length_eq
  simp at this
  exact ⟨k, by rw [List.getElem?_eq_getElem hk, e], by omega⟩
theorem fresh_RK {T : List Int} {h : Nat} {SL : List Nat} {f : Int → Int} (hp : SL.Perm (List.range T.length)) (hs : SL.Pairwise (fun x y => ¬ Kp T h y < Kp T h x)) (hf0 : ∀ x : Nat, SL[0]? = some x → f (x : Int) = 0)
    (hf : ∀ (k : Nat) x y, SL[k]? = some x → SL[k + 1]? = some y → f (y : Int) = f (x : Int) + (if Kp T h x < Kp T h y then 1 else 0)) :
    RK T h f ∧ ∀ (k : Nat) x, SL[k]? = some x → 0 ≤ f (x : Int) ∧ f (x : Int) ≤ k := by
  have law := fresh_law hs hf0 hf
  refine ⟨fun i j hi hj => ?_, fun k x hx => ?_⟩
  · obtain ⟨p, hp1, -⟩ := mem_ix hp hi
    obtain ⟨q, hq1, -⟩ := mem_ix hp hj
    rcases Nat.lt_or_ge q p with z | z
    · obtain ⟨l1, l2, l3⟩ := law (p - q) q j i hq1 (by rw [show q + (p - q) = p by omega]; exact hp1)
      have hns := List.pairwise_iff_getElem.mp hs q p (List.getElem?_eq_some_iff.mp hq1).1 (List.getElem?_eq_some_iff.mp hp1).1 z
      rw [(List.getElem?_eq_some_iff.mp hq1).2, (List.getElem?_eq_some_iff.mp hp1).2] at hns
      exact ⟨fun y => by omega, fun y => absurd y hns⟩
    · exact (law (q - p) p i j hp1 (by rw [show p + (q - p) = q by omega]; exact hq1)).2.2
  · have hl := (List.getElem?_eq_some_iff.mp hx).1
    have h0 : SL[0]? = some SL[0] := List.getElem?_eq_getElem (by omega)
    obtain ⟨l1, l2, -⟩ := law k 0 SL[0] x h0 (by rw [Nat.zero_add]; exact hx)
    rw [hf0 _ h0] at l1 l2
    exact ⟨l1, by omega⟩
/-- all ranks differ: the list is in order -/
theorem apart_law {T : List Int} {h : Nat} {SL : List Nat} {f : Int → Int} (hp : SL.Perm (List.range T.length)) (hs : SL.Pairwise (fun x y => ¬ Kp T h y < Kp T h x)) (hf0 : ∀ x : Nat, SL[0]? = some x → f (x : Int) = 0)
    (hf : ∀ (k : Nat) x y, SL[k]? = some x → SL[k + 1]? = some y → f (y : Int) = f (x : Int) + (if Kp T h x < Kp T h y then 1 else 0)) (z : Nat) (hz : SL[T.length - 1]? = some z) (hap : f (z : Int) = (T.length : Int) - 1) :
    (∀ (k : Nat) x, SL[k]? = some x → f (x : Int) = k) ∧ SL.Pairwise (fun x y => T.drop x < T.drop y) := by
  have law := fresh_law hs hf0 hf
  have hlen : SL.length = T.length := by have := hp.length_eq; simpa using this
  have hk : ∀ (k : Nat) x, SL[k]? = some x → f (x : Int) = k := fun k x hx => by
    have hl := (List.getElem?_eq_some_iff.mp hx).1
    have b := ((fresh_RK hp hs hf0 hf).2 k x hx).2
    obtain ⟨-, l2, -⟩ := law (T.length - 1 - k) k x z hx (by rw [show k + (T.length - 1 - k) = T.length - 1 by omega]; exact hz)
    omega
  refine ⟨hk, List.pairwise_iff_getElem.mpr (fun i j hi hj hij => ?_)⟩
  have e1 := hk i _ (List.getElem?_eq_getElem hi)
  have e2 := hk j _ (List.getElem?_eq_getElem hj)
  have := (law (j - i) i SL[i] SL[j] (List.getElem?_eq_getElem hi) (by rw [show i + (j - i) = j by omega]; exact List.getElem?_eq_getElem hj)).2.2.mp (by omega)
  have t := tk_lt (h := h) (m := max h T.length) (by omega) this
  rw [List.take_of_length_le (by simp; omega), List.take_of_length_le (by simp; omega)] at t
  exact t
/-- when h characters are all of them, the ranks differ -/
theorem far_apart {T : List Int} {h : Nat} {SL : List Nat} {f : Int → Int} (hp : SL.Perm (List.range T.length)) (hs : SL.Pairwise (fun x y => ¬ Kp T h y < Kp T h x)) (hf0 : ∀ x : Nat, SL[0]? = some x → f (x : Int) = 0)
    (hf : ∀ (k : Nat) x y, SL[k]? = some x → SL[k + 1]? = some y → f (y : Int) = f (x : Int) + (if Kp T h x < Kp T h y then 1 else 0)) (hh : T.length ≤ h) : ∀ (k : Nat) x, SL[k]? = some x → f (x : Int) = k := by
  intro k
  induction k with
  | zero => intro x hx; rw [hf0 x hx]; rfl
  | succ k ih =>
    intro y hy
    have hl := (List.getElem?_eq_some_iff.mp hy).1
    have hx : SL[k]? = some SL[k] := List.getElem?_eq_getElem (by omega)
    generalize SL[k] = x at hx
    have hlen : SL.length = T.length := by have := hp.length_eq; simpa using this
    have hxy : x ≠ y := fun z => by
      have hnd : SL.Nodup := hp.nodup_iff.mpr List.nodup_range
      have := List.pairwise_iff_getElem.mp hnd k (k + 1) (by omega) hl (by omega)
      rw [(List.getElem?_eq_some_iff.mp hx).2, (List.getElem?_eq_some_iff.mp hy).2] at this
      exact this z
    have hxn : x < T.length := List.mem_range.mp (hp.mem_iff.mp (List.mem_of_getElem? hx))
    have hyn : y < T.length := List.mem_range.mp (hp.mem_iff.mp (List.mem_of_getElem? hy))
    have hne : Kp T h x ≠ Kp T h y := fun z => by
      unfold Kp at z
      rw [List.take_of_length_le (by simp; omega), List.take_of_length_le (by simp; omega)] at z
      have := congrArg List.length z
      simp at this
      omega
    have hns := List.pairwise_iff_getElem.mp hs k (k + 1) (by omega) hl (by omega)
    rw [(List.getElem?_eq_some_iff.mp hx).2, (List.getElem?_eq_some_iff.mp hy).2] at hns
    have hlt : Kp T h x < Kp T h y := by
      rcases Classical.em (Kp T h x < Kp T h y) with q | q
      · exact q
      · exact absurd (tot_eq q hns) hne
    rw [hf k x y hx hy, if_pos hlt, ih x hx]
    rfl
/-! what two texts have in common -/
def lcp : List Int → List Int → Nat
  | a :: s, b :: t => if a = b then 1 + lcp s t else 0
  | _, _ => 0
theorem lcp_nl (s : List Int) : lcp s [] = 0 := by cases s <;> rfl
theorem lcp_ge : ∀ (h : Nat) (s t : List Int), h ≤ lcp s t ↔ h ≤ s.length ∧ h ≤ t.length ∧ s.take h = t.take h := by
  intro h
  induction h with
  | zero => intro s t; simp
  | succ h ih =>
    intro s t
    cases s with
    | nil => simp [lcp]
    | cons a s =>
      cases t with
      | nil => simp [lcp]
      | cons b t =>
        unfold lcp
        by_cases e : a = b
        · rw [if_pos e]
          have := ih s t
          simp only [List.length_cons, List.take_succ_cons, List.cons.injEq, e, true_and]
          rw [show (h + 1 ≤ 1 + lcp s t) ↔ h ≤ lcp s t by omega, this]
          constructor
          · rintro ⟨q1, q2, q3⟩; exact ⟨by omega, by omega, q3⟩
          · rintro ⟨q1, q2, q3⟩; exact ⟨by omega, by omega, q3⟩
        · rw [if_neg e]
          simp [e]
theorem lcp_step {T : List Int} {i j h : Nat} (hh : h ≤ lcp (T.drop j) (T.drop i)) : (i + h < T.length ∧ j + h < T.length ∧ T[i + h]? = T[j + h]? → h + 1 ≤ lcp (T.drop j) (T.drop i)) ∧ (¬ (i + h < T.length ∧ j + h < T.length ∧ T[i + h]? = T[j + h]?) → lcp (T.drop j) (T.drop i) = h) := by
  obtain ⟨h1, h2, h3⟩ := (lcp_ge _ _ _).mp hh
  simp only [List.length_drop] at h1 h2
  constructor
  · rintro ⟨q1, q2, q3⟩
    refine (lcp_ge _ _ _).mpr ⟨by simp; omega, by simp; omega, ?_⟩
    rw [List.take_add_one, List.take_add_one, h3, List.getElem?_drop, List.getElem?_drop, q3]
  · intro q
    have : ¬ h + 1 ≤ lcp (T.drop j) (T.drop i) := fun z => by
      obtain ⟨g1, g2, g3⟩ := (lcp_ge _ _ _).mp z
      simp only [List.length_drop] at g1 g2
      refine q ⟨by omega, by omega, ?_⟩
      have := congrArg (fun l => l[h]?) g3
      simp only [List.getElem?_take, List.getElem?_drop] at this
      rw [if_pos (by omega), if_pos (by omega)] at this
      exact this.symm
    omega
/-- a text between two has as much in common with the greater one -/
theorem lcp_mid : ∀ {x y z : List Int}, ¬ y < x → y < z → lcp x z ≤ lcp y z := by
  intro x
  induction x with
  | nil => intro y z _ _; simp [lcp]
  | cons a x ih =>
    intro y z h1 h2
    cases z with
    | nil => exact absurd h2 (List.not_lt_nil _)
    | cons c z =>
      cases y with
      | nil => exact absurd (List.nil_lt_cons a x) h1
      | cons b y =>
        unfold lcp
        by_cases e : a = c
        · rw [if_pos e]
          rw [ltc] at h1 h2
          have hb : b = c := by omega
          rw [if_pos hb]
          have := ih (y := y) (z := z) (fun q => h1 (Or.inr ⟨by omega, q⟩)) (by rcases h2 with q | q; (· omega); exact q.2)
          omega
        · rw [if_neg e]; omega
theorem lcp_tail {s t : List Int} {m : Nat} (h : m + 1 ≤ lcp s t) (hl : s < t) : s.drop 1 < t.drop 1 ∧ m ≤ lcp (s.drop 1) (t.drop 1) := by
  cases s with
  | nil => simp [lcp] at h
  | cons a s =>
    cases t with
    | nil => simp [lcp] at h
    | cons b t =>
      unfold lcp at h
      by_cases e : a = b
      · rw [if_pos e] at h
        rw [ltc] at hl
        simp only [List.drop_succ_cons, List.drop_zero]
        exact ⟨by rcases hl with q | q; (· omega); exact q.2, by omega⟩
      · rw [if_neg e] at h; omega
/-! ===== arrays of small numbers ===== -/
def AN (v : Mem) (a : Nat) (off : Nat) (L : List Nat) : Prop := ∀ (j : Nat) x, L[j]? = some x → iv_ v a ((off + j : Nat) : Int) = (x : Int)
theorem AN.nil (v : Mem) (a off : Nat) : AN v a off [] := fun j x h => by simp at h
theorem AN.app {v : Mem} {a off : Nat} {A B : List Nat} : AN v a off (A ++ B) ↔ AN v a off A ∧ AN v a (off + A.length) B := by
  constructor
  · intro h
    refine ⟨fun j x hj => h j x ?_, fun j x hj => ?_⟩
    · rw [List.getElem?_append_left (List.getElem?_eq_some_iff.mp hj).1]; exact hj
    · have := h (A.length + j) x (by rw [List.getElem?_append_right (by omega), show A.length + j - A.length = j by omega]; exact hj)
      rw [show off + A.length + j = off + (A.length + j) by omega]
      exact this
  · rintro ⟨h1, h2⟩ j x hj
    by_cases z : j < A.length
    · rw [List.getElem?_append_left z] at hj; exact h1 j x hj
    · rw [List.getElem?_append_right (by omega)] at hj
      have := h2 (j - A.length) x hj
      rw [show off + A.length + (j - A.length) = off + j by omega] at this
      exact this
theorem AN.cons {v : Mem} {a off : Nat} {x : Nat} {B : List Nat} : AN v a off (x :: B) ↔ iv_ v a (off : Int) = (x : Int) ∧ AN v a (off + 1) B := by
  have := AN.app (v := v) (a := a) (off := off) (A := [x]) (B := B)
  rw [List.singleton_append] at this
  rw [this]
  refine and_congr ⟨fun h => ?_, fun h j y hj => ?_⟩ Iff.rfl
  · exact h 0 x rfl
  · have hj0 : j = 0 := by have := (List.getElem?_eq_some_iff.mp hj).1; simp at this; omega
    subst hj0
    simp at hj
    rw [← hj]; exact h
theorem AN.wI {v : Mem} {a off b : Nat} {L : List Nat} {i x : Int} (h : AN v a off L) (hi : b ≠ a ∨ i < off ∨ (off + L.length : Int) ≤ i) : AN (wI_ v b i x) a off L := fun j y hj => by
  have hl := (List.getElem?_eq_some_iff.mp hj).1
  rw [iv_wI, if_neg (by omega)]
  exact h j y hj
theorem AN.same {v w : Mem} {a off : Nat} {L : List Nat} (h : AN v a off L) (hs : ∀ i, iv_ w a i = iv_ v a i) : AN w a off L := fun j x hj => by rw [hs]; exact h j x hj
/-! ===== Scroll.rank, compare ===== -/
/-- only ints of the scroll's own cells change -/
def Iw (u v : Mem) (sc a3 a4 a5 a6 : Nat) : Prop := sz_ v = sz_ u ∧ (∀ a, kd_ v a = kd_ u a ∧ ln_ v a = ln_ u a) ∧ (∀ a i, rv_ v a i = rv_ u a i) ∧ (∀ a, a ≠ sc → a ≠ a3 → a ≠ a4 → a ≠ a5 → a ≠ a6 → ∀ i, iv_ v a i = iv_ u a i) ∧ ∀ i, i ≠ 7 → iv_ v sc i = iv_ u sc i
theorem Iw.rf (u : Mem) (sc a3 a4 a5 a6 : Nat) : Iw u u sc a3 a4 a5 a6 := ⟨rfl, fun _ => ⟨rfl, rfl⟩, fun _ _ => rfl, fun _ _ _ _ _ _ _ => rfl, fun _ _ => rfl⟩
theorem Iw.w {u v : Mem} {sc a3 a4 a5 a6 b : Nat} {i x : Int} (h : Iw u v sc a3 a4 a5 a6) (hb : b = a3 ∨ b = a4 ∨ b = a5 ∨ b = a6) (hn : sc ≠ b) : Iw u (wI_ v b i x) sc a3 a4 a5 a6 := ⟨h.1, h.2.1, h.2.2.1, fun a q0 q1 q2 q3 q4 j => by
  rw [iv_wI, if_neg (fun z => by rcases hb with y | y | y | y <;> (rw [y] at z; first | exact q1 z.1 | exact q2 z.1 | exact q3 z.1 | exact q4 z.1))]
  exact h.2.2.2.1 a q0 q1 q2 q3 q4 j, fun j hj => by rw [iv_wI, if_neg (fun z => hn z.1)]; exact h.2.2.2.2 j hj⟩
theorem Iw.w7 {u v : Mem} {sc a3 a4 a5 a6 : Nat} {x : Int} (h : Iw u v sc a3 a4 a5 a6) : Iw u (wI_ v sc 7 x) sc a3 a4 a5 a6 := ⟨h.1, h.2.1, h.2.2.1, fun a q0 q1 q2 q3 q4 j => by rw [iv_wI, if_neg (fun z => q0 z.1)]; exact h.2.2.2.1 a q0 q1 q2 q3 q4 j, fun j hj => by rw [iv_wI, if_neg (fun z => hj z.2)]; exact h.2.2.2.2 j hj⟩
theorem SX.iw {u v : Mem} {sc a1 a3 a4 a5 a6 : Nat} (h : SX u sc a1 a3 a4 a5 a6) (hI : Iw u v sc a3 a4 a5 a6) : SX v sc a1 a3 a4 a5 a6 := h.same (fun a _ => hI.2.1 a) (fun i _ => hI.2.2.1 sc i)
theorem RO.iw {E : Nat} {u v : Mem} {sc a1 a3 a4 a5 a6 r : Nat} {T : List Int} (hX : SX u sc a1 a3 a4 a5 a6) (hI : Iw u v sc a3 a4 a5 a6) (h : RO E u r T) : RO E v r T := by
  obtain ⟨⟨h0, -⟩, -, ⟨h3, -⟩, ⟨h4, -⟩, ⟨h5, -⟩, ⟨h6, -⟩, -⟩ := hX
  have sm : ∀ a, kd_ u a = 18 ∨ kd_ u a = 101 → Sm u v a := fun a ha => ⟨(hI.2.1 a).1, (hI.2.1 a).2, hI.2.2.2.1 a (fun z => by rw [z] at ha; omega) (fun z => by rw [z] at ha; omega) (fun z => by rw [z] at ha; omega) (fun z => by rw [z] at ha; omega) (fun z => by rw [z] at ha; omega), hI.2.2.1 a⟩
  exact RO.frame (fun a ha => sm a (Or.inl ha)) (fun a ha _ => sm a (Or.inr ha)) h
theorem Iw.fr {u v : Mem} {sc a1 a3 a4 a5 a6 : Nat} (h : Iw u v sc a3 a4 a5 a6) : Fr (sQ sc a1 a3 a4 a5 a6) u v := ⟨by rw [h.1]; exact Nat.le_refl _, fun a _ => ⟨(h.2.1 a).1, (h.2.1 a).2, fun q => ⟨(h.2.1 a).1, (h.2.1 a).2, h.2.2.2.1 a (fun z => q (Or.inl z)) (fun z => q (by unfold sQ; simp [z])) (fun z => q (by unfold sQ; simp [z])) (fun z => q (by unfold sQ; simp [z])) (fun z => q (by unfold sQ; simp [z])), h.2.2.1 a⟩⟩⟩
theorem c_rank (l : Launch) (u : Mem) {E sc a1 a3 a4 a5 a6 x : Nat} {y : Int} {T : List Int} (hX : SX u sc a1 a3 a4 a5 a6) (hR : RO E u (rv_ u sc 0) T) (hT : T.length ≤ 120) (hx : x ≤ 1000) (hy : y = (x : Int)) : Mt_ l yX10_rank cX10_rank 2 (some .int) 1 0 0 [aR sc, aI y] u (qI fun r v => u = v ∧ r = rkx T.length (iv_ u a4) x) := by
  obtain ⟨⟨ks, r1, r3, r4, r5, r6⟩, -, -, ⟨k4, l4⟩, -⟩ := hX
  subst hy
  refine Mt_of (by decide) (Nat.le_of_ble_eq_true rfl) (fun X ho hX hN hI => ?_)
  subst hX
  show Z X 0 [some (aR sc), some (aI  (x:Int))] [] u 0 0
  refine z_iload_n ho dX10_rank_0 rfl ?_
  refine z_aload_n ho dX10_rank_1 rfl ?_
  refine kX10_45 ho hN (c_slen _ _ ks hR) dX10_rank_2 ks (Nat.le_of_ble_eq_true rfl) (Nat.le_of_ble_eq_true rfl) (Nat.le_of_ble_eq_true rfl) (Nat.le_of_ble_eq_true rfl) (fun x2 u2 h2 => ?_)
  obtain ⟨rfl, rfl⟩ := h2
  refine z_icmp_ge (tgt := 17) ho dX10_rank_5 (by decide) (by unfold rng; omega) (by unfold rng; omega) (fun c5 => ?_) (fun c5 => ?_)
  · 
    refine z_iconst ho dX10_rank_17 ?_
    refine r_I ho dX10_rank_18 (Nat.le_of_ble_eq_true rfl) (Nat.le_of_ble_eq_true rfl) ?_
    exact ⟨rfl, by unfold rkx; rw [if_neg (by omega)]⟩
  · 
    refine z_aload_n ho dX10_rank_8 rfl ?_
    refine gX10_21 ho dX10_rank_9 ks ?_
    rw [r4]
    refine z_iload_n ho dX10_rank_12 rfl ?_
    refine z_iald ho dX10_rank_13 k4 (by omega) (by omega) ?_
    refine z_goto (tgt := 18) ho dX10_rank_14 (by decide) ?_
    refine r_I ho dX10_rank_18 (Nat.le_of_ble_eq_true rfl) (Nat.le_of_ble_eq_true rfl) ?_
    exact ⟨rfl, by unfold rkx; rw [if_pos (by omega)]⟩
theorem c_compare (l : Launch) (u : Mem) {E sc a1 a3 a4 a5 a6 a b h : Nat} {T : List Int} (hX : SX u sc a1 a3 a4 a5 a6) (hR : RO E u (rv_ u sc 0) T) (hT : T.length ≤ 120) (ha : a < T.length) (hb : b < T.length) (h1 : 1 ≤ h) (h2 : h ≤ 500) (hK : RK T h (iv_ u a4)) (hr : ∀ i : Nat, i < T.length → 0 ≤ iv_ u a4 (i : Int) ∧ iv_ u a4 (i : Int) < 65536) :
    Mt_ l yX10_compare cX10_compare 4 (some .int) 2 0 0 [aR sc, aI (a : Int), aI (b : Int), aI (h : Int)] u (qI fun r v => u = v ∧ ((r = -1 ∧ Kp T (2 * h) a < Kp T (2 * h) b) ∨ (r = 0 ∧ Kp T (2 * h) a = Kp T (2 * h) b) ∨ (r = 1 ∧ Kp T (2 * h) b < Kp T (2 * h) a))) := by
  have hX' := hX
  obtain ⟨⟨ks, r1, r3, r4, r5, r6⟩, -, -, ⟨k4, l4⟩, -⟩ := hX
  have fa := hr a ha
  have fb := hr b hb
  have nab := hK.next (fun i hi => (hr i hi).1) h1 ha hb
  have nba := hK.next (fun i hi => (hr i hi).1) h1 hb ha
  have rx : ∀ x, rng (rkx T.length (iv_ u a4) x) := fun x => by
    unfold rkx
    split
    · rename_i z; have := hr x z; unfold rng; omega
    · unfold rng; omega
  refine Mt_of (by decide) (Nat.le_of_ble_eq_true rfl) (fun X ho hX hN hI => ?_)
  subst hX
  show Z X 0 [some (aR sc), some (aI  (a:Int)), some (aI  (b:Int)), some (aI  (h:Int))] [] u 0 0
  refine z_aload_n ho dX10_compare_0 rfl ?_
  refine gX10_21 ho dX10_compare_1 ks ?_
  rw [r4]
  refine z_iload_n ho dX10_compare_4 rfl ?_
  refine z_iald ho dX10_compare_5 k4 (by omega) (by omega) ?_
  refine z_aload_n ho dX10_compare_6 rfl ?_
  refine gX10_21 ho dX10_compare_7 ks ?_
  rw [r4]
  refine z_iload_n ho dX10_compare_10 rfl ?_
  refine z_iald ho dX10_compare_11 k4 (by omega) (by omega) ?_
  refine z_icmp_eq (tgt := 33) ho dX10_compare_12 (by decide) (by unfold rng; omega) (by unfold rng; omega) (fun c12 => ?_) (fun c12 => ?_)
  · have ea : (a : Int) + (h : Int) = ((a + h : Nat) : Int) := by omega
    have eb : (b : Int) + (h : Int) = ((b + h : Nat) : Int) := by omega
    refine z_aload_n ho dX10_compare_33 rfl ?_
    refine z_iload_n ho dX10_compare_34 rfl ?_
    refine z_iload_n ho dX10_compare_35 rfl ?_
    refine z_iadd ho dX10_compare_36 ?_
    refine kX10_83 ho hN (c_rank _ _ hX' hR hT (x := a + h) (by omega) ea) dX10_compare_37 ks (by omega) (Nat.le_of_ble_eq_true rfl) (Nat.le_of_ble_eq_true rfl) (Nat.le_of_ble_eq_true rfl) (fun x37 u37 h37 => ?_)
    obtain ⟨rfl, hra⟩ := h37
    refine z_aload_n ho dX10_compare_40 rfl ?_
    refine z_iload_n ho dX10_compare_41 rfl ?_
    refine z_iload_n ho dX10_compare_42 rfl ?_
    refine z_iadd ho dX10_compare_43 ?_
    refine kX10_83 ho hN (c_rank _ _ hX' hR hT (x := b + h) (by omega) eb) dX10_compare_44 ks (by omega) (Nat.le_of_ble_eq_true rfl) (Nat.le_of_ble_eq_true rfl) (Nat.le_of_ble_eq_true rfl) (fun x44 u44 h44 => ?_)
    obtain ⟨rfl, hrb⟩ := h44
    refine kX10_77 ho hN (c_icmp _ _ (by rw [hra]; exact rx _) (by rw [hrb]; exact rx _)) dX10_compare_47 (by omega) (Nat.le_of_ble_eq_true rfl) (Nat.le_of_ble_eq_true rfl) (Nat.le_of_ble_eq_true rfl) (fun x47 u47 h47 => ?_)
    obtain ⟨rfl, hq⟩ := h47
    refine r_I ho dX10_compare_50 (Nat.le_of_ble_eq_true rfl) (Nat.le_of_ble_eq_true rfl) ?_
    rw [hra, hrb] at hq
    refine ⟨rfl, ?_⟩
    by_cases z1 : rkx T.length (iv_ u a4) (a + h) < rkx T.length (iv_ u a4) (b + h)
    · rw [if_pos z1] at hq
      exact Or.inl ⟨hq, nab.mp (Or.inr ⟨c12, z1⟩)⟩
    · rw [if_neg z1] at hq
      by_cases z2 : rkx T.length (iv_ u a4) (a + h) = rkx T.length (iv_ u a4) (b + h)
      · rw [if_pos z2] at hq
        exact Or.inr (Or.inl ⟨hq, tot_eq (fun z => by have := nab.mpr z; omega) (fun z => by have := nba.mpr z; omega)⟩)
      · rw [if_neg z2] at hq
        exact Or.inr (Or.inr ⟨hq, nba.mp (Or.inr ⟨c12.symm, by omega⟩)⟩)
  · 
    refine z_aload_n ho dX10_compare_15 rfl ?_
    refine gX10_21 ho dX10_compare_16 ks ?_
    rw [r4]
    refine z_iload_n ho dX10_compare_19 rfl ?_
    refine z_iald ho dX10_compare_20 k4 (by omega) (by omega) ?_
    refine z_aload_n ho dX10_compare_21 rfl ?_
    refine gX10_21 ho dX10_compare_22 ks ?_
    rw [r4]
    refine z_iload_n ho dX10_compare_25 rfl ?_
    refine z_iald ho dX10_compare_26 k4 (by omega) (by omega) ?_
    refine kX10_77 ho hN (c_icmp _ _ (by unfold rng; omega) (by unfold rng; omega)) dX10_compare_27 (by omega) (Nat.le_of_ble_eq_true rfl) (Nat.le_of_ble_eq_true rfl) (Nat.le_of_ble_eq_true rfl) (fun x27 u27 h27 => ?_)
    obtain ⟨rfl, hq⟩ := h27
    refine z_goto (tgt := 50) ho dX10_compare_30 (by decide) ?_
    refine r_I ho dX10_compare_50 (Nat.le_of_ble_eq_true rfl) (Nat.le_of_ble_eq_true rfl) ?_
    refine ⟨rfl, ?_⟩
    by_cases z1 : iv_ u a4 (a : Int) < iv_ u a4 (b : Int)
    · rw [if_pos z1] at hq
      exact Or.inl ⟨hq, nab.mp (Or.inl z1)⟩
    · rw [if_neg z1, if_neg c12] at hq
      exact Or.inr (Or.inr ⟨hq, nba.mp (Or.inl (by omega))⟩)
/-- the suffixes of a text in order, their ranks, what neighbours have in common -/
def SA0 (T : List Int) (sx rk : Int → Int) (SL : List Nat) : Prop := SL.Perm (List.range T.length) ∧ SL.Pairwise (fun x y => T.drop x < T.drop y) ∧ ∀ (k : Nat) x, SL[k]? = some x → sx (k : Int) = (x : Int) ∧ rk (x : Int) = (k : Int)
def SAr (T : List Int) (sx rk cm : Int → Int) : Prop := ∃ SL : List Nat, SA0 T sx rk SL ∧ (0 < T.length → cm 0 = 0) ∧ ∀ (k : Nat) x y, SL[k]? = some x → SL[k + 1]? = some y → cm ((k + 1 : Nat) : Int) = ((lcp (T.drop x) (T.drop y) : Nat) : Int)
theorem c_share (l : Launch) (u : Mem) {E sc a1 a3 a4 a5 a6 : Nat} {T : List Int} {SL : List Nat} (hX : SX u sc a1 a3 a4 a5 a6) (hR : RO E u (rv_ u sc 0) T) (hT : T.length ≤ 120) (hS : SA0 T (iv_ u a3) (iv_ u a4) SL) :
    Mt_ l yX10_share cX10_share 5 none 1 0 0 [aR sc, aI (T.length : Int)] u (qV fun v => SAr T (iv_ v a3) (iv_ v a4) (iv_ v a6) ∧ Iw u v sc a3 a4 a5 a6 ∧ iv_ v sc 7 = iv_ u sc 7) := by
  obtain ⟨n1, n2⟩ := hX.ne
  have hXu := hX
  obtain ⟨⟨ks, r1, r3, r4, r5, r6⟩, ⟨k1, l1⟩, ⟨k3, l3⟩, ⟨k4, l4⟩, ⟨k5, l5⟩, ⟨k6, l6⟩, d34, d35, d36, d45, d46, d56⟩ := hX
  obtain ⟨hp, hso, hix⟩ := hS
  have hlen : SL.length = T.length := by have := hp.length_eq; simpa using this
  refine Mt_of (by decide) (Nat.le_of_ble_eq_true rfl) (fun X ho hX hN hI => ?_)
  subst hX
  show Z X 0 [some (aR sc), some (aI  (T.length:Int)), none, none, none] [] u 0 0
  refine z_wf (fun hw => ?_)
  obtain ⟨hr1, hr2⟩ := hR.len hw
  -- the memory: only a6 changes
  have key : ∀ (m i : Nat) (h : Nat) (v : Mem) (tm : Option AV), m + i = T.length → (∀ a j, a ≠ a6 → iv_ v a j = iv_ u a j) → Iw u v sc a3 a4 a5 a6 → (∀ (k : Nat) x y, SL[k]? = some x → SL[k + 1]? = some y → y = i → h ≤ lcp (T.drop x) (T.drop y)) → (i < T.length → h ≤ 120) → (0 < T.length → ∀ x, SL[0]? = some x → x < i → iv_ v a6 0 = 0) → (∀ (k : Nat) x y, SL[k]? = some x → SL[k + 1]? = some y → y < i → iv_ v a6 ((k + 1 : Nat) : Int) = ((lcp (T.drop x) (T.drop y) : Nat) : Int)) → Z X 4 [some (aR sc), some (aI (T.length : Int)), some (aI (h : Int)), some (aI (i : Int)), tm] [] v 0 0 := by
    intro m
    induction m with
    | zero =>
      intro i h v tm hmi hv hI hh hh2 hc0 hc
      refine z_iload_n ho dX10_share_4 rfl ?_
      refine z_iload_n ho dX10_share_5 rfl ?_
      refine z_icmp_ge (tgt := 116) ho dX10_share_6 (by decide) (by unfold rng; omega) (by unfold rng; omega) (fun c6 => ?_) (fun c6 => ?_)
      · 
        refine r_V ho dX10_share_116 (Nat.le_of_ble_eq_true rfl) (Nat.le_of_ble_eq_true rfl) ?_
        have e3 : iv_ v a3 = iv_ u a3 := funext fun j => hv a3 j d36
        have e4 : iv_ v a4 = iv_ u a4 := funext fun j => hv a4 j d46
        refine ⟨⟨SL, by rw [e3, e4]; exact ⟨hp, hso, hix⟩, fun h0 => ?_, fun k x y hx hy => hc k x y hx hy ?_⟩, hI, hv sc 7 n1.2.2.2.2⟩
        · have hx : SL[0]? = some SL[0] := List.getElem?_eq_getElem (by omega)
          have : SL[0] < T.length := List.mem_range.mp (hp.mem_iff.mp (List.mem_of_getElem? hx))
          exact hc0 h0 _ hx (by omega)
        · have : y < T.length := List.mem_range.mp (hp.mem_iff.mp (List.mem_of_getElem? hy))
          omega
      · omega
    | succ m ih =>
      intro i h v tm hmi hv hI hh hh2 hc0 hc
      have hi : i < T.length := by omega
      have Xv := hXu.iw hI
      have Rv := RO.iw hXu hI hR
      obtain ⟨k, hk, hkn⟩ := mem_ix hp hi
      have erk : iv_ v a4 (i : Int) = (k : Int) := by rw [hv a4 _ d46]; exact (hix k i hk).2
      have ks' := Xv.1.1
      have e4 := Xv.1.2.2.2.1
      have e3 := Xv.1.2.2.1
      have e6 := Xv.1.2.2.2.2.2
      have hro : rv_ u sc 0 ≠ 0 := fun z => by rw [hr1.mp z] at hi; simp at hi
      have ero : rv_ v sc 0 = rv_ u sc 0 := hI.2.2.1 sc 0
      obtain ⟨kr, lr, hRT⟩ := hr2 hro
      have hRTv : RT E v 12 (rv_ u sc 0) T := by
        rcases Rv with ⟨z, -⟩ | z
        · exact absurd z hro
        · exact z
      have krv : kd_ v (rv_ u sc 0) = 18 := hRTv.kd.1
      have nd : SL.Nodup := hp.nodup_iff.mpr List.nodup_range
      have ixu : ∀ {p q x : Nat}, SL[p]? = some x → SL[q]? = some x → p = q := fun {p q x} h1 h2 => by
        have a1 := (hix p x h1).2
        have a2 := (hix q x h2).2
        omega
      -- on to the next one
      have nxt : ∀ (h' : Nat) (w : Mem) (tm : Option AV), (∀ a j, a ≠ a6 → iv_ w a j = iv_ u a j) → Iw u w sc a3 a4 a5 a6 → (h' ≤ 120) → (∀ (k : Nat) x y, SL[k]? = some x → SL[k + 1]? = some y → y = i + 1 → h' ≤ lcp (T.drop x) (T.drop y)) → (0 < T.length → ∀ x, SL[0]? = some x → x < i + 1 → iv_ w a6 0 = 0) → (∀ (k : Nat) x y, SL[k]? = some x → SL[k + 1]? = some y → y < i + 1 → iv_ w a6 ((k + 1 : Nat) : Int) = ((lcp (T.drop x) (T.drop y) : Nat) : Int)) → Z X 110 [some (aR sc), some (aI (T.length : Int)), some (aI (h' : Int)), some (aI (i : Int)), tm] [] w 0 0 := by
        intro h' w tm q1 q2 q3 q4 q5 q6
        refine z_iinc ho dX10_share_110 rfl rfl ?_
        refine z_goto (tgt := 4) ho dX10_share_113 (by decide) ?_
        have := ih (i + 1) h' w tm (by omega) q1 q2 q4 (fun _ => q3) q5 q6
        rw [show ((i + 1 : Nat) : Int) = (i : Int) + 1 by omega] at this
        exact this
      refine z_iload_n ho dX10_share_4 rfl ?_
      refine z_iload_n ho dX10_share_5 rfl ?_
      refine z_icmp_ge (tgt := 116) ho dX10_share_6 (by decide) (by unfold rng; omega) (by unfold rng; omega) (fun c6 => ?_) (fun c6 => ?_)
      · omega
      · 
        refine z_aload_n ho dX10_share_9 rfl ?_
        refine gX10_21 ho dX10_share_10 ks' ?_
        rw [e4]
        refine z_iload_n ho dX10_share_13 rfl ?_
        refine z_iald ho dX10_share_14 (by rw [(hI.2.1 _).1]; exact k4) (by omega) (by rw [(hI.2.1 _).2]; omega) ?_
        rw [erk]
        refine z_if_ne (tgt := 30) ho dX10_share_15 (by decide) (by unfold rng; omega) (fun c15 => ?_) (fun c15 => ?_)
        · -- it has a neighbour
          cases k with
          | zero => exact absurd rfl c15
          | succ k =>
          have hx : SL[k]? = some SL[k] := List.getElem?_eq_getElem (by omega)
          generalize SL[k] = j at hx
          have hj : j < T.length := List.mem_range.mp (hp.mem_iff.mp (List.mem_of_getElem? hx))
          have ek : ((k + 1 : Nat) : Int) - 1 = (k : Int) := by omega
          have esx : iv_ v a3 (k : Int) = (j : Int) := by rw [hv a3 _ d36]; exact (hix k j hx).1
          have hlt : T.drop j < T.drop i := by
            have := List.pairwise_iff_getElem.mp hso k (k + 1) (by omega) (by omega) (by omega)
            rw [(List.getElem?_eq_some_iff.mp hx).2, (List.getElem?_eq_some_iff.mp hk).2] at this
            exact this
          have lle : ∀ {q : Nat}, q ≤ lcp (T.drop j) (T.drop i) → i + q ≤ T.length ∧ j + q ≤ T.length := fun {q} hq => by
            obtain ⟨g1, g2, -⟩ := (lcp_ge _ _ _).mp hq
            simp only [List.length_drop] at g1 g2
            omega
          have fin : Z X 90 [some (aR sc), some (aI (T.length : Int)), some (aI ((lcp (T.drop j) (T.drop i) : Nat) : Int)), some (aI (i : Int)), some (aI (j : Int))] [] v 0 0 := by
            have hl0 := lle (Nat.le_refl (lcp (T.drop j) (T.drop i)))
            refine z_aload_n ho dX10_share_90 rfl ?_
            refine gX10_27 ho dX10_share_91 ks' ?_
            rw [e6]
            refine z_aload_n ho dX10_share_94 rfl ?_
            refine gX10_21 ho dX10_share_95 ks' ?_
            rw [e4]
            refine z_iload_n ho dX10_share_98 rfl ?_
            refine z_iald ho dX10_share_99 (by rw [(hI.2.1 _).1]; exact k4) (by omega) (by rw [(hI.2.1 _).2]; omega) ?_
            rw [erk]
            refine z_iload_n ho dX10_share_100 rfl ?_
            refine z_iast ho dX10_share_101 (by rw [(hI.2.1 _).1]; exact k6) (by omega) (by rw [(hI.2.1 _).2]; omega) ?_
            refine z_iconst ho dX10_share_102 ?_
            refine z_iload_n ho dX10_share_103 rfl ?_
            refine z_iconst ho dX10_share_104 ?_
            refine z_isub ho dX10_share_105 ?_
            refine z_mmax ho hN q604 dX10_share_106 (by unfold rng; omega) (by unfold rng; omega) (Nat.le_of_ble_eq_true rfl) (Nat.le_of_ble_eq_true rfl) (Nat.le_of_ble_eq_true rfl) (Nat.le_of_ble_eq_true rfl) ?_
            refine z_istore_n ho dX10_share_109 (Nat.le_of_ble_eq_true rfl) rfl ?_
            have em : max 0 (((lcp (T.drop j) (T.drop i) : Nat) : Int) - 1) = ((lcp (T.drop j) (T.drop i) - 1 : Nat) : Int) := by omega
            rw [em]
            refine nxt _ _ _ (fun a q ha => by rw [iv_wI, if_neg (fun z => ha z.1)]; exact hv a q ha) (hI.w (by simp) n1.2.2.2.2) (by omega) (fun k' x y hx' hy' hy => ?_) (fun h0 x hx' hxi => ?_) (fun k' x y hx' hy' hyi => ?_)
            · subst hy
              by_cases hm : lcp (T.drop j) (T.drop i) ≤ 1
              · omega
              · obtain ⟨t1, t2⟩ := lcp_tail (m := lcp (T.drop j) (T.drop i) - 1) (by omega) hlt
                rw [List.drop_drop, List.drop_drop] at t1 t2
                have hj1 : j + 1 < T.length := by
                  have := (lcp_ge _ _ _).mp t2
                  simp only [List.length_drop] at this
                  omega
                obtain ⟨p, hp1, hp2⟩ := mem_ix hp hj1
                -- j + 1 is not behind the neighbour x
                have hnx : ¬ T.drop x < T.drop (j + 1) := fun z => by
                  have h3 : p ≤ k' := by
                    rcases Nat.lt_or_ge k' p with y | y
                    · rcases Nat.lt_or_ge p (k' + 1) with y2 | y2
                      · omega
                      · rcases Nat.eq_or_lt_of_le y2 with y3 | y3
                        · rw [← y3] at hp1
                          rw [hy'] at hp1
                          cases hp1
                          exact absurd t1 (List.lt_irrefl _)
                        · have := List.pairwise_iff_getElem.mp hso (k' + 1) p (by have := (List.getElem?_eq_some_iff.mp hy').1; omega) (by omega) y3
                          rw [(List.getElem?_eq_some_iff.mp hy').2, (List.getElem?_eq_some_iff.mp hp1).2] at this
                          exact absurd (List.lt_trans this t1) (List.lt_irrefl _)
                    · exact y
                  rcases Nat.eq_or_lt_of_le h3 with y | y
                  · rw [y, hx'] at hp1
                    cases hp1
                    exact absurd z (List.lt_irrefl _)
                  · have := List.pairwise_iff_getElem.mp hso p k' (by omega) (by have := (List.getElem?_eq_some_iff.mp hx').1; omega) y
                    rw [(List.getElem?_eq_some_iff.mp hp1).2, (List.getElem?_eq_some_iff.mp hx').2] at this
                    exact absurd (List.lt_trans this z) (List.lt_irrefl _)
                have hxy : T.drop x < T.drop (i + 1) := by
                  have := List.pairwise_iff_getElem.mp hso k' (k' + 1) (by have := (List.getElem?_eq_some_iff.mp hx').1; omega) (by have := (List.getElem?_eq_some_iff.mp hy').1; omega) (by omega)
                  rw [(List.getElem?_eq_some_iff.mp hx').2, (List.getElem?_eq_some_iff.mp hy').2] at this
                  exact this
                have := lcp_mid hnx hxy
                omega
            · have hx0 : x ≠ i := fun z => by rw [z] at hx'; have := ixu hx' hk; omega
              rw [iv_wI, if_neg (by omega)]
              exact hc0 h0 x hx' (by omega)
            · by_cases hyi2 : y = i
              · subst hyi2
                have ek' := ixu hy' hk
                have : k' = k := by omega
                subst this
                rw [hx] at hx'
                cases hx'
                rw [iv_wI, if_pos ⟨rfl, rfl⟩]
              · rw [iv_wI, if_neg (fun z => hyi2 (by
                  have e5 : k' + 1 = k + 1 := by omega
                  rw [e5, hk] at hy'
                  cases hy'; rfl))]
                exact hc k' x y hx' hy' (by omega)
          have whl : ∀ (q h' : Nat), q + h' = lcp (T.drop j) (T.drop i) → Z X 45 [some (aR sc), some (aI (T.length : Int)), some (aI (h' : Int)), some (aI (i : Int)), some (aI (j : Int))] [] v 0 0 := by
            intro q
            have cmp : ∀ h' : Nat, h' ≤ lcp (T.drop j) (T.drop i) → i + h' < T.length → j + h' < T.length → (ch T ((i : Int) + (h' : Int)) = ch T ((j : Int) + (h' : Int)) ↔ T[i + h']? = T[j + h']?) := fun h' _ q1 q2 => by
              unfold ch
              rw [show ((i : Int) + (h' : Int)).toNat = i + h' by omega, show ((j : Int) + (h' : Int)).toNat = j + h' by omega, List.getD_eq_getElem?_getD, List.getD_eq_getElem?_getD, List.getElem?_eq_getElem q1, List.getElem?_eq_getElem q2]
              simp
            have chr : ∀ x : Int, rng (ch T x) := fun x => by
              have hch := (RT.chars _ _ _ hRTv).1
              unfold ch
              rw [List.getD_eq_getElem?_getD]
              cases hg : T[x.toNat]? with
              | none => simp [rng]
              | some c => have := hch c (List.mem_of_getElem? hg); simp [rng]; omega
            induction q with
            | zero =>
              intro h' hq
              have hle : h' ≤ lcp (T.drop j) (T.drop i) := by omega
              have hl0 := lle hle
              have stp := (lcp_step hle)
              have done : Z X 90 [some (aR sc), some (aI (T.length : Int)), some (aI (h' : Int)), some (aI (i : Int)), some (aI (j : Int))] [] v 0 0 := by
                have : h' = lcp (T.drop j) (T.drop i) := by omega
                rw [this]; exact fin
              refine z_iload_n ho dX10_share_45 rfl ?_
              refine z_iload_n ho dX10_share_46 rfl ?_
              refine z_iadd ho dX10_share_47 ?_
              refine z_iload_n ho dX10_share_48 rfl ?_
              refine z_icmp_ge (tgt := 90) ho dX10_share_49 (by decide) (by unfold rng; omega) (by unfold rng; omega) (fun c49 => ?_) (fun c49 => ?_)
              · exact done
              · 
                refine z_iload ho dX10_share_52 rfl ?_
                refine z_iload_n ho dX10_share_54 rfl ?_
                refine z_iadd ho dX10_share_55 ?_
                refine z_iload_n ho dX10_share_56 rfl ?_
                refine z_icmp_ge (tgt := 90) ho dX10_share_57 (by decide) (by unfold rng; omega) (by unfold rng; omega) (fun c57 => ?_) (fun c57 => ?_)
                · exact done
                · 
                  refine z_aload_n ho dX10_share_60 rfl ?_
                  refine gX10_30 ho dX10_share_61 ks' ?_
                  rw [ero]
                  refine z_iload_n ho dX10_share_64 rfl ?_
                  refine z_iload_n ho dX10_share_65 rfl ?_
                  refine z_iadd ho dX10_share_66 ?_
                  refine kX10_73 ho hN (c_ropeat _ _ hRTv (by omega) (by omega) (by omega)) dX10_share_67 krv (by omega) (Nat.le_of_ble_eq_true rfl) (Nat.le_of_ble_eq_true rfl) (Nat.le_of_ble_eq_true rfl) (fun x67 u67 h67 => ?_)
                  obtain ⟨rfl, rfl⟩ := h67
                  refine z_aload_n ho dX10_share_70 rfl ?_
                  refine gX10_30 ho dX10_share_71 ks' ?_
                  rw [ero]
                  refine z_iload ho dX10_share_74 rfl ?_
                  refine z_iload_n ho dX10_share_76 rfl ?_
                  refine z_iadd ho dX10_share_77 ?_
                  refine kX10_73 ho hN (c_ropeat _ _ hRTv (by omega) (by omega) (by omega)) dX10_share_78 krv (by omega) (Nat.le_of_ble_eq_true rfl) (Nat.le_of_ble_eq_true rfl) (Nat.le_of_ble_eq_true rfl) (fun x78 u78 h78 => ?_)
                  obtain ⟨rfl, rfl⟩ := h78
                  refine z_icmp_ne (tgt := 90) ho dX10_share_81 (by decide) (chr _) (chr _) (fun c81 => ?_) (fun c81 => ?_)
                  · exact done
                  · have := stp.1 ⟨by omega, by omega, (cmp h' hle (by omega) (by omega)).mp c81⟩
                    omega
            | succ q ihq =>
              intro h' hq
              have hle : h' ≤ lcp (T.drop j) (T.drop i) := by omega
              have hl0 := lle hle
              have hl1 := lle (q := h' + 1) (by omega)
              have stp := (lcp_step hle)
              refine z_iload_n ho dX10_share_45 rfl ?_
              refine z_iload_n ho dX10_share_46 rfl ?_
              refine z_iadd ho dX10_share_47 ?_
              refine z_iload_n ho dX10_share_48 rfl ?_
              refine z_icmp_ge (tgt := 90) ho dX10_share_49 (by decide) (by unfold rng; omega) (by unfold rng; omega) (fun c49 => ?_) (fun c49 => ?_)
              · omega
              · 
                refine z_iload ho dX10_share_52 rfl ?_
                refine z_iload_n ho dX10_share_54 rfl ?_
                refine z_iadd ho dX10_share_55 ?_
                refine z_iload_n ho dX10_share_56 rfl ?_
                refine z_icmp_ge (tgt := 90) ho dX10_share_57 (by decide) (by unfold rng; omega) (by unfold rng; omega) (fun c57 => ?_) (fun c57 => ?_)
                · omega
                · 
                  refine z_aload_n ho dX10_share_60 rfl ?_
                  refine gX10_30 ho dX10_share_61 ks' ?_
                  rw [ero]
                  refine z_iload_n ho dX10_share_64 rfl ?_
                  refine z_iload_n ho dX10_share_65 rfl ?_
                  refine z_iadd ho dX10_share_66 ?_
                  refine kX10_73 ho hN (c_ropeat _ _ hRTv (by omega) (by omega) (by omega)) dX10_share_67 krv (by omega) (Nat.le_of_ble_eq_true rfl) (Nat.le_of_ble_eq_true rfl) (Nat.le_of_ble_eq_true rfl) (fun x67 u67 h67 => ?_)
                  obtain ⟨rfl, rfl⟩ := h67
                  refine z_aload_n ho dX10_share_70 rfl ?_
                  refine gX10_30 ho dX10_share_71 ks' ?_
                  rw [ero]
                  refine z_iload ho dX10_share_74 rfl ?_
                  refine z_iload_n ho dX10_share_76 rfl ?_
                  refine z_iadd ho dX10_share_77 ?_
                  refine kX10_73 ho hN (c_ropeat _ _ hRTv (by omega) (by omega) (by omega)) dX10_share_78 krv (by omega) (Nat.le_of_ble_eq_true rfl) (Nat.le_of_ble_eq_true rfl) (Nat.le_of_ble_eq_true rfl) (fun x78 u78 h78 => ?_)
                  obtain ⟨rfl, rfl⟩ := h78
                  refine z_icmp_ne (tgt := 90) ho dX10_share_81 (by decide) (chr _) (chr _) (fun c81 => ?_) (fun c81 => ?_)
                  · have := stp.2 (fun z => c81 ((cmp h' hle (by omega) (by omega)).mpr z.2.2))
                    omega
                  · 
                    refine z_iinc ho dX10_share_84 rfl rfl ?_
                    refine z_goto (tgt := 45) ho dX10_share_87 (by decide) ?_
                    have := ihq (h' + 1) (by omega)
                    rw [show ((h' + 1 : Nat) : Int) = (h' : Int) + 1 by omega] at this
                    exact this
          refine z_aload_n ho dX10_share_30 rfl ?_
          refine gX10_17 ho dX10_share_31 ks' ?_
          rw [e3]
          refine z_aload_n ho dX10_share_34 rfl ?_
          refine gX10_21 ho dX10_share_35 ks' ?_
          rw [e4]
          refine z_iload_n ho dX10_share_38 rfl ?_
          refine z_iald ho dX10_share_39 (by rw [(hI.2.1 _).1]; exact k4) (by omega) (by rw [(hI.2.1 _).2]; omega) ?_
          rw [erk]
          refine z_iconst ho dX10_share_40 ?_
          refine z_isub ho dX10_share_41 ?_
          refine z_iald ho dX10_share_42 (by rw [(hI.2.1 _).1]; exact k3) (by omega) (by rw [(hI.2.1 _).2]; omega) ?_
          rw [ek, esx]
          refine z_istore ho dX10_share_43 (Nat.le_of_ble_eq_true rfl) rfl ?_
          have hle := hh k j i hx hk rfl
          exact whl (lcp (T.drop j) (T.drop i) - h) h (by omega)
        · -- the first one
          have hk0 : k = 0 := by omega
          subst hk0
          refine z_aload_n ho dX10_share_18 rfl ?_
          refine gX10_27 ho dX10_share_19 ks' ?_
          rw [e6]
          refine z_iconst ho dX10_share_22 ?_
          refine z_iconst ho dX10_share_23 ?_
          refine z_iast ho dX10_share_24 (by rw [(hI.2.1 _).1]; exact k6) (by omega) (by rw [(hI.2.1 _).2]; omega) ?_
          refine z_iconst ho dX10_share_25 ?_
          refine z_istore_n ho dX10_share_26 (Nat.le_of_ble_eq_true rfl) rfl ?_
          refine z_goto (tgt := 110) ho dX10_share_27 (by decide) ?_
          have := nxt 0 (wI_ v a6 0 0) tm (fun a q ha => by rw [iv_wI, if_neg (fun z => ha z.1)]; exact hv a q ha) (hI.w (by simp) n1.2.2.2.2) (by omega) (fun _ _ _ _ _ _ => Nat.zero_le _) (fun _ _ _ _ => by rw [iv_wI, if_pos ⟨rfl, rfl⟩]) (fun k' x y hx' hy' hyi => ?_)
          · exact this
          · have hyi2 : y ≠ i := fun z => by rw [z] at hy'; have := ixu hy' hk; omega
            rw [iv_wI, if_neg (by omega)]
            exact hc k' x y hx' hy' (by omega)
  refine z_iconst ho dX10_share_0 ?_
  refine z_istore_n ho dX10_share_1 (Nat.le_of_ble_eq_true rfl) rfl ?_
  refine z_iconst ho dX10_share_2 ?_
  refine z_istore_n ho dX10_share_3 (Nat.le_of_ble_eq_true rfl) rfl ?_
  exact key T.length 0 0 u none (by omega) (fun _ _ _ => rfl) (Iw.rf u sc a3 a4 a5 a6) (fun _ _ _ _ _ _ => Nat.zero_le _) (fun _ => by omega) (fun _ _ _ h => by omega) (fun _ _ _ _ _ h => by omega)
