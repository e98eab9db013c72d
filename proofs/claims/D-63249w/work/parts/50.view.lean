set_option maxRecDepth 100000
/-! ===== views ===== -/
theorem li_tot (s t : List Int) : s < t ∨ s = t ∨ t < s := by
  rcases Classical.em (s < t) with h | h
  · exact Or.inl h
  · rcases Classical.em (t < s) with h' | h'
    · exact Or.inr (Or.inr h')
    · exact Or.inr (Or.inl (List.le_antisymm h' h))
theorem li_nlt {s t r : List Int} (h1 : ¬ t < s) (h2 : ¬ r < t) : ¬ r < s := fun h => by
  rcases li_tot r t with q | q | q
  · exact h2 q
  · rw [q] at h; exact h1 h
  · exact h1 (li_tr q h)
theorem li_nl2 {s t r : List Int} (h1 : s < t) (h2 : ¬ r < t) : s < r := by
  rcases li_tot r t with q | q | q
  · exact absurd q h2
  · rw [q]; exact h1
  · exact li_tr h1 q
theorem li_nl3 {s t r : List Int} (h1 : ¬ t < s) (h2 : t < r) : s < r := by
  rcases li_tot s t with q | q | q
  · exact li_tr q h2
  · rw [q]; exact h2
  · exact absurd q h1
/-- the range of a view -/
def inR (lo hi : Option (List Int)) (s : List Int) : Prop := (∀ a, lo = some a → ¬ s < a) ∧ (∀ b, hi = some b → s < b)
/-- the least text that is greater than all that begin with a text -/
def aft : List Int → Option (List Int)
  | [] => none
  | c :: k => match aft k with
    | some a => some (c :: a)
    | none => if c = 65535 then none else some [c + 1]
theorem aft_max (L : List Int) : aft (L ++ [65535]) = aft L := by
  induction L with
  | nil => rfl
  | cons c L ih => rw [List.cons_append]; unfold aft; rw [ih]
theorem aft_inc {L : List Int} {c : Int} (h : c ≠ 65535) : aft (L ++ [c]) = some (L ++ [c + 1]) := by
  induction L with
  | nil => simp [aft, h]
  | cons d L ih => rw [List.cons_append]; unfold aft; rw [ih]; rfl
theorem lt_cons {a b : Int} {s t : List Int} : a :: s < b :: t ↔ a < b ∨ (a = b ∧ s < t) := List.cons_lt_cons_iff
theorem begins_iff : ∀ (k s : List Int), (∀ c ∈ k, 0 ≤ c ∧ c < 65536) → (∀ c ∈ s, 0 ≤ c ∧ c < 65536) → (k <+: s ↔ ¬ s < k ∧ ∀ a, aft k = some a → s < a) := by
  intro k
  induction k with
  | nil =>
    intro s _ _
    exact ⟨fun _ => ⟨List.not_lt_nil s, fun a h => by cases h⟩, fun _ => List.nil_prefix⟩
  | cons c k ih =>
    intro s hk hs
    cases s with
    | nil =>
      refine ⟨fun h => ?_, fun h => ?_⟩
      · simp at h
      · exact absurd (List.nil_lt_cons c k) h.1
    | cons d s =>
      have ih' := ih s (fun x hx => hk x (List.mem_cons_of_mem _ hx)) (fun x hx => hs x (List.mem_cons_of_mem _ hx))
      have hc := hk c List.mem_cons_self
      have hd := hs d List.mem_cons_self
      rw [List.cons_prefix_cons, lt_cons]
      constructor
      · rintro ⟨rfl, h⟩
        obtain ⟨h1, h2⟩ := ih'.mp h
        refine ⟨fun z => by rcases z with z | z; (· omega); exact h1 z.2, fun a ha => ?_⟩
        unfold aft at ha
        cases e : aft k with
        | some b =>
          rw [e] at ha
          cases ha
          exact lt_cons.mpr (Or.inr ⟨rfl, h2 b e⟩)
        | none =>
          rw [e] at ha
          have ha' : (if c = 65535 then none else some [c + 1]) = some a := ha
          split at ha'
          · cases ha'
          · cases ha'
            exact lt_cons.mpr (Or.inl (by omega))
      · rintro ⟨h1, h2⟩
        cases e : aft k with
        | some b =>
          have := h2 (c :: b) (by unfold aft; rw [e])
          rw [lt_cons] at this
          have hcd : c = d := by omega
          refine ⟨hcd, ih'.mpr ⟨fun z => h1 (Or.inr ⟨hcd.symm, z⟩), fun a ha => ?_⟩⟩
          rw [e] at ha
          cases ha
          rcases this with z | z
          · omega
          · exact z.2
        | none =>
          have hcd : c = d := by
            by_cases hm : c = 65535
            · omega
            · have := h2 [c + 1] (by unfold aft; rw [e]; simp [hm])
              rw [lt_cons] at this
              rcases this with z | z
              · omega
              · exact absurd z.2 (List.not_lt_nil s)
          exact ⟨hcd, ih'.mpr ⟨fun z => h1 (Or.inr ⟨hcd.symm, z⟩), fun a ha => by rw [e] at ha; cases ha⟩⟩
theorem cmp_neg {s t : List Int} : cmpT s t < 0 ↔ s < t := by
  rcases li_tot s t with h | h | h
  · rw [cmpT_lt h]; simp [h]
  · rw [cmpT_eq h, h]; simp [li_irr]
  · rw [cmpT_gt h]; simp [li_as h]
theorem cmp_pos {s t : List Int} : 0 < cmpT s t ↔ t < s := by
  rcases li_tot s t with h | h | h
  · rw [cmpT_lt h]; simp [li_as h]
  · rw [cmpT_eq h, h]; simp [li_irr]
  · rw [cmpT_gt h]; simp [h]
/-- a truth value -/
def qB (r : Int) (P : Prop) : Prop := (r = 1 ∧ P) ∨ (r = 0 ∧ ¬ P)
def KyO (u : Mem) (k : Nat) (o : Option (List Int)) : Prop := (k = 0 ∧ o = none) ∨ (Ky u k ∧ o = some (tx u k))
theorem KyO.c {u : Mem} {k : Nat} {o : Option (List Int)} (hw : Wf u) (h : KyO u k o) : (k = 0 → o = none) ∧ (k ≠ 0 → Ky u k ∧ o = some (tx u k)) := by
  rcases h with ⟨h1, h2⟩ | ⟨h1, h2⟩
  · exact ⟨fun _ => h2, fun z => absurd h1 z⟩
  · exact ⟨fun z => absurd z (h1.lt hw).2.2, fun _ => ⟨h1, h2⟩⟩
def Vw (u : Mem) (v t : Nat) (lo hi : Option (List Int)) : Prop := kd_ u v = 11 ∧ rv_ u v 0 = t ∧ KyO u (rv_ u v 1) lo ∧ KyO u (rv_ u v 2) hi
theorem c_has (l : Launch) (u : Mem) {v t k : Nat} {lo hi : Option (List Int)} (hV : Vw u v t lo hi) (hk : Ky u k) : Mt_ l yX11_has cX11_has 2 (some .boolean) 2 0 0 [aR v, aR k] u (qI fun r u' => u = u' ∧ qB r (inR lo hi (tx u k))) := by
  obtain ⟨kv, -, hlo, hhi⟩ := hV
  refine Mt_of (by decide) (Nat.le_of_ble_eq_true rfl) (fun X ho hX hN hI => ?_)
  subst hX
  show Z X 0 [some (aR v), some (aR k)] [] u 0 0
  refine z_wf (fun hw => ?_)
  have cl := hlo.c hw
  have ch := hhi.c hw
  have no : ¬ inR lo hi (tx u k) → Z X 40 [some (aR v), some (aR k)] [] u 0 0 := fun h => by
    refine z_iconst ho dX11_has_40 ?_
    refine r_Z ho dX11_has_41 (Nat.le_of_ble_eq_true rfl) (Nat.le_of_ble_eq_true rfl) ?_ ?_
    · exact Or.inl rfl
    · exact ⟨rfl, Or.inr ⟨rfl, h⟩⟩
  have yes : inR lo hi (tx u k) → Z X 36 [some (aR v), some (aR k)] [] u 0 0 := fun h => by
    refine z_iconst ho dX11_has_36 ?_
    refine z_goto (tgt := 41) ho dX11_has_37 (by decide) ?_
    refine r_Z ho dX11_has_41 (Nat.le_of_ble_eq_true rfl) (Nat.le_of_ble_eq_true rfl) ?_ ?_
    · exact Or.inr rfl
    · exact ⟨rfl, Or.inl ⟨rfl, h⟩⟩
  have p18 : (∀ a, lo = some a → ¬ tx u k < a) → Z X 18 [some (aR v), some (aR k)] [] u 0 0 := fun h => by
    refine z_aload_n ho dX11_has_18 rfl ?_
    refine gX11_20 ho dX11_has_19 kv ?_
    refine z_ifnull (tgt := 36) ho dX11_has_22 (by decide) (fun c22 => ?_) (fun c22 => ?_)
    · exact yes ⟨h, fun b hb => by rw [ch.1 c22] at hb; cases hb⟩
    · obtain ⟨k2, e2⟩ := ch.2 c22
      refine z_aload_n ho dX11_has_25 rfl ?_
      refine z_aload_n ho dX11_has_26 rfl ?_
      refine gX11_20 ho dX11_has_27 kv ?_
      refine kX11_27 ho hN (c_compareTo _ _ hk k2) dX11_has_30 hk.1 (Nat.le_of_ble_eq_true rfl) (Nat.le_of_ble_eq_true rfl) (Nat.le_of_ble_eq_true rfl) (Nat.le_of_ble_eq_true rfl) (fun x30 u30 h30 => ?_)
      obtain ⟨rfl, rfl⟩ := h30
      refine z_if_ge (tgt := 40) ho dX11_has_33 (by decide) (cmp_rng _ _) (fun c33 => ?_) (fun c33 => ?_)
      · refine no (fun z => ?_)
        have := cmp_neg.mpr (z.2 _ e2)
        omega
      · exact yes ⟨h, fun b hb => by rw [e2] at hb; cases hb; exact cmp_neg.mp (by omega)⟩
  refine z_aload_n ho dX11_has_0 rfl ?_
  refine gX11_16 ho dX11_has_1 kv ?_
  refine z_ifnull (tgt := 18) ho dX11_has_4 (by decide) (fun c4 => ?_) (fun c4 => ?_)
  · exact p18 (fun a ha => by rw [cl.1 c4] at ha; cases ha)
  · obtain ⟨k1, e1⟩ := cl.2 c4
    refine z_aload_n ho dX11_has_7 rfl ?_
    refine z_aload_n ho dX11_has_8 rfl ?_
    refine gX11_16 ho dX11_has_9 kv ?_
    refine kX11_27 ho hN (c_compareTo _ _ hk k1) dX11_has_12 hk.1 (Nat.le_of_ble_eq_true rfl) (Nat.le_of_ble_eq_true rfl) (Nat.le_of_ble_eq_true rfl) (Nat.le_of_ble_eq_true rfl) (fun x12 u12 h12 => ?_)
    obtain ⟨rfl, rfl⟩ := h12
    refine z_if_lt (tgt := 40) ho dX11_has_15 (by decide) (cmp_rng _ _) (fun c15 => ?_) (fun c15 => ?_)
    · exact no (fun z => z.1 _ e1 (cmp_neg.mp c15))
    · exact p18 (fun a ha => by rw [e1] at ha; cases ha; exact fun z => by have := cmp_neg.mpr z; omega)
def qUp (u : Mem) (S : List Nat) (lo hi : Option (List Int)) (k : Nat) (st : Int) (r : Nat) : Prop := (r = 0 ∧ ∀ e ∈ S, inR lo hi (tx u e) → ¬ okA u k st e) ∨ (r ∈ S ∧ inR lo hi (tx u r) ∧ okA u k st r ∧ ∀ e ∈ S, inR lo hi (tx u e) → okA u k st e → e = r ∨ tx u r < tx u e)
def qDn (u : Mem) (S : List Nat) (lo hi : Option (List Int)) (k : Nat) (st : Int) (r : Nat) : Prop := (r = 0 ∧ ∀ e ∈ S, inR lo hi (tx u e) → ¬ okB u k st e) ∨ (r ∈ S ∧ inR lo hi (tx u r) ∧ okB u k st r ∧ ∀ e ∈ S, inR lo hi (tx u e) → okB u k st e → e = r ∨ tx u e < tx u r)
theorem c_up (l : Launch) (u : Mem) {G : Nat → Prop} {v t k : Nat} {S : List Nat} {st : Int} {lo hi : Option (List Int)} (hV : Vw u v t lo hi) (hT : TP G u t S) (hc : iv_ u t 0 = S.length) (hS : S.length ≤ 64) (hk : k = 0 ∨ Ky u k) (hst : st = 0 ∨ st = 1) : Mt_ l yX11_up cX11_up 5 (some (.object "KeyHall$Entry")) 1101 0 0 [aR v, aR k, aI st] u (qR fun r u' => u = u' ∧ qUp u S lo hi k st r) := by
  obtain ⟨kv, ht, hlo, hhi⟩ := hV
  subst ht
  refine Mt_of (by decide) (Nat.le_of_ble_eq_true rfl) (fun X ho hX hN hI => ?_)
  subst hX
  show Z X 0 [some (aR v), some (aR k), some (aI st), none, none] [] u 0 0
  refine z_wf (fun hw => ?_)
  have cl := hlo.c hw
  have ch := hhi.c hw
  have fin : ∀ (e : Nat) (b : Int), ((e = 0 ∧ ∀ x ∈ S, inR lo hi (tx u x) → ¬ okA u k st x) ∨ (e ∈ S ∧ okA u k st e ∧ (∀ a, lo = some a → ¬ tx u e < a) ∧ ∀ x ∈ S, inR lo hi (tx u x) → okA u k st x → x = e ∨ tx u e < tx u x)) → Z X 56 [some (aR v), some (aR k), some (aI st), some (aI b), none] [aR e] u 0 0 := by
    intro e b h
    refine z_astore ho dX11_up_56 (Nat.le_of_ble_eq_true rfl) rfl ?_
    refine z_aload ho dX11_up_58 rfl ?_
    refine z_ifnull (tgt := 87) ho dX11_up_60 (by decide) (fun c60 => ?_) (fun c60 => ?_)
    · 
      refine z_null ho dX11_up_87 ?_
      refine r_R ho dX11_up_88 (Nat.le_of_ble_eq_true rfl) (Nat.le_of_ble_eq_true rfl) ?_
      rcases h with ⟨-, h⟩ | ⟨h, -⟩
      · exact ⟨rfl, Or.inl ⟨rfl, h⟩⟩
      · exact absurd c60 ((hT.en e h).ne0 hw)
    · obtain ⟨h1, h2, h3, h4⟩ := h.resolve_left (fun z => c60 z.1)
      have en := hT.en e h1
      have good : (∀ b, hi = some b → tx u e < b) → Z X 82 [some (aR v), some (aR k), some (aI st), some (aI b), some (aR e)] [] u 0 0 := fun h => by
        refine z_aload ho dX11_up_82 rfl ?_
        refine z_goto (tgt := 88) ho dX11_up_84 (by decide) ?_
        refine r_R ho dX11_up_88 (Nat.le_of_ble_eq_true rfl) (Nat.le_of_ble_eq_true rfl) ?_
        exact ⟨rfl, Or.inr ⟨h1, ⟨h3, h⟩, h2, h4⟩⟩
      refine z_aload_n ho dX11_up_63 rfl ?_
      refine gX11_20 ho dX11_up_64 kv ?_
      refine z_ifnull (tgt := 82) ho dX11_up_67 (by decide) (fun c67 => ?_) (fun c67 => ?_)
      · exact good (fun b hb => by rw [ch.1 c67] at hb; cases hb)
      · obtain ⟨k2, e2⟩ := ch.2 c67
        refine z_aload ho dX11_up_70 rfl ?_
        refine z_aload_n ho dX11_up_72 rfl ?_
        refine gX11_20 ho dX11_up_73 kv ?_
        refine kX11_62 ho hN (c_compareTo _ _ en.1 k2) dX11_up_76 en.2 (Nat.le_of_ble_eq_true rfl) (Nat.le_of_ble_eq_true rfl) (Nat.le_of_ble_eq_true rfl) (Nat.le_of_ble_eq_true rfl) (fun x76 u76 h76 => ?_)
        obtain ⟨rfl, rfl⟩ := h76
        refine z_if_ge (tgt := 87) ho dX11_up_79 (by decide) (cmp_rng _ _) (fun c79 => ?_) (fun c79 => ?_)
        · 
          refine z_null ho dX11_up_87 ?_
          refine r_R ho dX11_up_88 (Nat.le_of_ble_eq_true rfl) (Nat.le_of_ble_eq_true rfl) ?_
          refine ⟨rfl, Or.inl ⟨rfl, fun x hx hr ho => ?_⟩⟩
          have hxh := hr.2 _ e2
          have hne : ¬ tx u e < tx u (rv_ u v 2) := fun z => by have := cmp_neg.mpr z; omega
          rcases h4 x hx hr ho with z | z
          · rw [z] at hxh; exact hne hxh
          · exact hne (li_tr z hxh)
        · exact good (fun b hb => by rw [e2] at hb; cases hb; exact cmp_neg.mp (by omega))
  have P1 : Ky u (rv_ u v 1) → lo = some (tx u (rv_ u v 1)) → (k = 0 ∨ tx u k < tx u (rv_ u v 1)) → Z X 22 [some (aR v), some (aR k), some (aI st), none, none] [] u 0 0 := fun k1 e1 hlt => by
    have h10 := (k1.lt hw).2.2
    refine z_iconst ho dX11_up_22 ?_
    refine z_goto (tgt := 27) ho dX11_up_23 (by decide) ?_
    refine z_istore_n ho dX11_up_27 (Nat.le_of_ble_eq_true rfl) rfl ?_
    refine z_iload_n ho dX11_up_28 rfl ?_
    refine z_if_eq (tgt := 47) ho dX11_up_29 (by decide) (by unfold rng; omega) (fun c29 => ?_) (fun c29 => ?_)
    · exact absurd c29 (by decide)
    · 
      refine z_aload_n ho dX11_up_32 rfl ?_
      refine gX11_7 ho dX11_up_33 kv ?_
      refine z_aload_n ho dX11_up_36 rfl ?_
      refine gX11_16 ho dX11_up_37 kv ?_
      refine z_iconst ho dX11_up_40 ?_
      refine or_call3 (hT.k3) (fun hq cc => kX11_56_4 ho hN (c_R4_above _ _ hT hc hS (Or.inr k1) (Or.inl rfl) hq) dX11_up_41 hq (by omega) (Nat.le_of_ble_eq_true rfl) (Nat.le_of_ble_eq_true rfl) (Nat.le_of_ble_eq_true rfl) cc) (fun hq cc => kX11_56_5 ho hN (c_R5_above _ _ hT hc hS (Or.inr k1) (Or.inl rfl) hq) dX11_up_41 hq (by omega) (Nat.le_of_ble_eq_true rfl) (Nat.le_of_ble_eq_true rfl) (Nat.le_of_ble_eq_true rfl) cc) (fun hq cc => kX11_56_12 ho hN (c_R12_above _ _ hT hc hS (Or.inr k1) (Or.inl rfl) hq) dX11_up_41 hq (by omega) (Nat.le_of_ble_eq_true rfl) (Nat.le_of_ble_eq_true rfl) (Nat.le_of_ble_eq_true rfl) cc) (fun x41 u41 h41 => ?_)
      obtain ⟨rfl, hq⟩ := h41
      refine z_goto (tgt := 56) ho dX11_up_44 (by decide) ?_
      refine fin _ _ ?_
      have up : ∀ x, okA u (rv_ u v 1) 0 x → okA u k st x := fun x hx => by
        rcases hlt with z | z
        · exact Or.inl z
        · rcases (okA_eq h10).mp hx with q | q
          · exact okA_gt (li_tr z q)
          · exact okA_gt (by rw [q.2]; exact z)
      have dn : ∀ x, inR lo hi (tx u x) → okA u (rv_ u v 1) 0 x := fun x hx => by
        have := hx.1 _ e1
        rcases li_tot (tx u (rv_ u v 1)) (tx u x) with q | q | q
        · exact okA_gt q
        · exact Or.inr (Or.inr ⟨rfl, q.symm⟩)
        · exact absurd q this
      rcases hq with ⟨z1, z2⟩ | ⟨z1, z2, z3⟩
      · exact Or.inl ⟨z1, fun x hx hr => absurd (dn x hr) (z2 x hx)⟩
      · refine Or.inr ⟨z1, up _ z2, fun a ha => ?_, fun x hx hr _ => z3 x hx (dn x hr)⟩
        rw [e1] at ha
        cases ha
        rcases (okA_eq h10).mp z2 with q | q
        · exact li_as q
        · rw [q.2]; exact li_irr _
  have P0 : (lo = none ∨ (Ky u k ∧ ∃ a, lo = some a ∧ ¬ tx u k < a)) → Z X 26 [some (aR v), some (aR k), some (aI st), none, none] [] u 0 0 := fun hlo0 => by
    refine z_iconst ho dX11_up_26 ?_
    refine z_istore_n ho dX11_up_27 (Nat.le_of_ble_eq_true rfl) rfl ?_
    refine z_iload_n ho dX11_up_28 rfl ?_
    refine z_if_eq (tgt := 47) ho dX11_up_29 (by decide) (by unfold rng; omega) (fun c29 => ?_) (fun c29 => ?_)
    · 
      refine z_aload_n ho dX11_up_47 rfl ?_
      refine gX11_7 ho dX11_up_48 kv ?_
      refine z_aload_n ho dX11_up_51 rfl ?_
      refine z_iload_n ho dX11_up_52 rfl ?_
      refine or_call3 (hT.k3) (fun hq cc => kX11_56_4 ho hN (c_R4_above _ _ hT hc hS hk hst hq) dX11_up_53 hq (by omega) (Nat.le_of_ble_eq_true rfl) (Nat.le_of_ble_eq_true rfl) (Nat.le_of_ble_eq_true rfl) cc) (fun hq cc => kX11_56_5 ho hN (c_R5_above _ _ hT hc hS hk hst hq) dX11_up_53 hq (by omega) (Nat.le_of_ble_eq_true rfl) (Nat.le_of_ble_eq_true rfl) (Nat.le_of_ble_eq_true rfl) cc) (fun hq cc => kX11_56_12 ho hN (c_R12_above _ _ hT hc hS hk hst hq) dX11_up_53 hq (by omega) (Nat.le_of_ble_eq_true rfl) (Nat.le_of_ble_eq_true rfl) (Nat.le_of_ble_eq_true rfl) cc) (fun x53 u53 h53 => ?_)
      obtain ⟨rfl, hq⟩ := h53
      refine fin _ _ ?_
      rcases hq with ⟨z1, z2⟩ | ⟨z1, z2, z3⟩
      · exact Or.inl ⟨z1, fun x hx _ => z2 x hx⟩
      · refine Or.inr ⟨z1, z2, fun a ha => ?_, fun x hx _ ho => z3 x hx ho⟩
        rcases hlo0 with z | ⟨z, a', e, hn⟩
        · rw [z] at ha; cases ha
        · rw [e] at ha
          cases ha
          rcases (okA_eq (z.lt hw).2.2).mp z2 with q | q
          · exact fun y => hn (li_tr q y)
          · rw [q.2]; exact hn
    · exact absurd rfl c29
  refine z_aload_n ho dX11_up_0 rfl ?_
  refine gX11_16 ho dX11_up_1 kv ?_
  refine z_ifnull (tgt := 26) ho dX11_up_4 (by decide) (fun c4 => ?_) (fun c4 => ?_)
  · exact P0 (Or.inl (cl.1 c4))
  · obtain ⟨k1, e1⟩ := cl.2 c4
    refine z_aload_n ho dX11_up_7 rfl ?_
    refine z_ifnull (tgt := 22) ho dX11_up_8 (by decide) (fun c8 => ?_) (fun c8 => ?_)
    · exact P1 k1 e1 (Or.inl c8)
    · have hk := hk.resolve_left c8
      refine z_aload_n ho dX11_up_11 rfl ?_
      refine gX11_16 ho dX11_up_12 kv ?_
      refine z_aload_n ho dX11_up_15 rfl ?_
      refine kX11_27 ho hN (c_compareTo _ _ k1 hk) dX11_up_16 k1.1 (Nat.le_of_ble_eq_true rfl) (Nat.le_of_ble_eq_true rfl) (Nat.le_of_ble_eq_true rfl) (Nat.le_of_ble_eq_true rfl) (fun x16 u16 h16 => ?_)
      obtain ⟨rfl, rfl⟩ := h16
      refine z_if_le (tgt := 26) ho dX11_up_19 (by decide) (cmp_rng _ _) (fun c19 => ?_) (fun c19 => ?_)
      · exact P0 (Or.inr ⟨hk, _, e1, fun z => by have := cmp_pos.mpr z; omega⟩)
      · exact P1 k1 e1 (Or.inr (cmp_pos.mp (by omega)))
theorem c_down (l : Launch) (u : Mem) {G : Nat → Prop} {v t k : Nat} {S : List Nat} {st : Int} {lo hi : Option (List Int)} (hV : Vw u v t lo hi) (hT : TP G u t S) (hc : iv_ u t 0 = S.length) (hS : S.length ≤ 64) (hk : k = 0 ∨ Ky u k) (hst : st = 0 ∨ st = 1) : Mt_ l yX11_down cX11_down 5 (some (.object "KeyHall$Entry")) 1101 0 0 [aR v, aR k, aI st] u (qR fun r u' => u = u' ∧ qDn u S lo hi k st r) := by
  obtain ⟨kv, ht, hlo, hhi⟩ := hV
  subst ht
  refine Mt_of (by decide) (Nat.le_of_ble_eq_true rfl) (fun X ho hX hN hI => ?_)
  subst hX
  show Z X 0 [some (aR v), some (aR k), some (aI st), none, none] [] u 0 0
  refine z_wf (fun hw => ?_)
  have cl := hlo.c hw
  have ch := hhi.c hw
  have fin : ∀ (e : Nat) (b : Int), ((e = 0 ∧ ∀ x ∈ S, inR lo hi (tx u x) → ¬ okB u k st x) ∨ (e ∈ S ∧ okB u k st e ∧ (∀ b, hi = some b → tx u e < b) ∧ ∀ x ∈ S, inR lo hi (tx u x) → okB u k st x → x = e ∨ tx u x < tx u e)) → Z X 56 [some (aR v), some (aR k), some (aI st), some (aI b), none] [aR e] u 0 0 := by
    intro e b h
    refine z_astore ho dX11_down_56 (Nat.le_of_ble_eq_true rfl) rfl ?_
    refine z_aload ho dX11_down_58 rfl ?_
    refine z_ifnull (tgt := 87) ho dX11_down_60 (by decide) (fun c60 => ?_) (fun c60 => ?_)
    · 
      refine z_null ho dX11_down_87 ?_
      refine r_R ho dX11_down_88 (Nat.le_of_ble_eq_true rfl) (Nat.le_of_ble_eq_true rfl) ?_
      rcases h with ⟨-, h⟩ | ⟨h, -⟩
      · exact ⟨rfl, Or.inl ⟨rfl, h⟩⟩
      · exact absurd c60 ((hT.en e h).ne0 hw)
    · obtain ⟨h1, h2, h3, h4⟩ := h.resolve_left (fun z => c60 z.1)
      have en := hT.en e h1
      have good : (∀ a, lo = some a → ¬ tx u e < a) → Z X 82 [some (aR v), some (aR k), some (aI st), some (aI b), some (aR e)] [] u 0 0 := fun h => by
        refine z_aload ho dX11_down_82 rfl ?_
        refine z_goto (tgt := 88) ho dX11_down_84 (by decide) ?_
        refine r_R ho dX11_down_88 (Nat.le_of_ble_eq_true rfl) (Nat.le_of_ble_eq_true rfl) ?_
        exact ⟨rfl, Or.inr ⟨h1, ⟨h, h3⟩, h2, h4⟩⟩
      refine z_aload_n ho dX11_down_63 rfl ?_
      refine gX11_16 ho dX11_down_64 kv ?_
      refine z_ifnull (tgt := 82) ho dX11_down_67 (by decide) (fun c67 => ?_) (fun c67 => ?_)
      · exact good (fun b hb => by rw [cl.1 c67] at hb; cases hb)
      · obtain ⟨k2, e2⟩ := cl.2 c67
        refine z_aload ho dX11_down_70 rfl ?_
        refine z_aload_n ho dX11_down_72 rfl ?_
        refine gX11_16 ho dX11_down_73 kv ?_
        refine kX11_62 ho hN (c_compareTo _ _ en.1 k2) dX11_down_76 en.2 (Nat.le_of_ble_eq_true rfl) (Nat.le_of_ble_eq_true rfl) (Nat.le_of_ble_eq_true rfl) (Nat.le_of_ble_eq_true rfl) (fun x76 u76 h76 => ?_)
        obtain ⟨rfl, rfl⟩ := h76
        refine z_if_lt (tgt := 87) ho dX11_down_79 (by decide) (cmp_rng _ _) (fun c79 => ?_) (fun c79 => ?_)
        · 
          refine z_null ho dX11_down_87 ?_
          refine r_R ho dX11_down_88 (Nat.le_of_ble_eq_true rfl) (Nat.le_of_ble_eq_true rfl) ?_
          refine ⟨rfl, Or.inl ⟨rfl, fun x hx hr ho => ?_⟩⟩
          have hxh := hr.1 _ e2
          have hne := cmp_neg.mp c79
          rcases h4 x hx hr ho with z | z
          · rw [z] at hxh; exact hxh hne
          · exact hxh (li_tr z hne)
        · exact good (fun b hb => by rw [e2] at hb; cases hb; exact fun z => by have := cmp_neg.mpr z; omega)
  have P1 : Ky u (rv_ u v 2) → hi = some (tx u (rv_ u v 2)) → (k = 0 ∨ ¬ tx u k < tx u (rv_ u v 2)) → Z X 22 [some (aR v), some (aR k), some (aI st), none, none] [] u 0 0 := fun k1 e1 hlt => by
    have h10 := (k1.lt hw).2.2
    refine z_iconst ho dX11_down_22 ?_
    refine z_goto (tgt := 27) ho dX11_down_23 (by decide) ?_
    refine z_istore_n ho dX11_down_27 (Nat.le_of_ble_eq_true rfl) rfl ?_
    refine z_iload_n ho dX11_down_28 rfl ?_
    refine z_if_eq (tgt := 47) ho dX11_down_29 (by decide) (by unfold rng; omega) (fun c29 => ?_) (fun c29 => ?_)
    · exact absurd c29 (by decide)
    · 
      refine z_aload_n ho dX11_down_32 rfl ?_
      refine gX11_7 ho dX11_down_33 kv ?_
      refine z_aload_n ho dX11_down_36 rfl ?_
      refine gX11_20 ho dX11_down_37 kv ?_
      refine z_iconst ho dX11_down_40 ?_
      refine or_call3 (hT.k3) (fun hq cc => kX11_65_4 ho hN (c_R4_below _ _ hT hc hS (Or.inr k1) (Or.inr rfl) hq) dX11_down_41 hq (by omega) (Nat.le_of_ble_eq_true rfl) (Nat.le_of_ble_eq_true rfl) (Nat.le_of_ble_eq_true rfl) cc) (fun hq cc => kX11_65_5 ho hN (c_R5_below _ _ hT hc hS (Or.inr k1) (Or.inr rfl) hq) dX11_down_41 hq (by omega) (Nat.le_of_ble_eq_true rfl) (Nat.le_of_ble_eq_true rfl) (Nat.le_of_ble_eq_true rfl) cc) (fun hq cc => kX11_65_12 ho hN (c_R12_below _ _ hT hc hS (Or.inr k1) (Or.inr rfl) hq) dX11_down_41 hq (by omega) (Nat.le_of_ble_eq_true rfl) (Nat.le_of_ble_eq_true rfl) (Nat.le_of_ble_eq_true rfl) cc) (fun x41 u41 h41 => ?_)
      obtain ⟨rfl, hq⟩ := h41
      refine z_goto (tgt := 56) ho dX11_down_44 (by decide) ?_
      refine fin _ _ ?_
      have lt1 : ∀ x, okB u (rv_ u v 2) 1 x → tx u x < tx u (rv_ u v 2) := fun x hx => by
        rcases (okB_eq h10).mp hx with q | q
        · exact q
        · exact absurd q.1 (by decide)
      have up : ∀ x, okB u (rv_ u v 2) 1 x → okB u k st x := fun x hx => by
        rcases hlt with z | z
        · exact Or.inl z
        · exact okB_lt (li_nl2 (lt1 x hx) z)
      have dn : ∀ x, inR lo hi (tx u x) → okB u (rv_ u v 2) 1 x := fun x hx => okB_lt (hx.2 _ e1)
      rcases hq with ⟨z1, z2⟩ | ⟨z1, z2, z3⟩
      · exact Or.inl ⟨z1, fun x hx hr => absurd (dn x hr) (z2 x hx)⟩
      · refine Or.inr ⟨z1, up _ z2, fun a ha => ?_, fun x hx hr _ => z3 x hx (dn x hr)⟩
        rw [e1] at ha
        cases ha
        exact lt1 _ z2
  have P0 : (hi = none ∨ (Ky u k ∧ ∃ b, hi = some b ∧ tx u k < b)) → Z X 26 [some (aR v), some (aR k), some (aI st), none, none] [] u 0 0 := fun hlo0 => by
    refine z_iconst ho dX11_down_26 ?_
    refine z_istore_n ho dX11_down_27 (Nat.le_of_ble_eq_true rfl) rfl ?_
    refine z_iload_n ho dX11_down_28 rfl ?_
    refine z_if_eq (tgt := 47) ho dX11_down_29 (by decide) (by unfold rng; omega) (fun c29 => ?_) (fun c29 => ?_)
    · 
      refine z_aload_n ho dX11_down_47 rfl ?_
      refine gX11_7 ho dX11_down_48 kv ?_
      refine z_aload_n ho dX11_down_51 rfl ?_
      refine z_iload_n ho dX11_down_52 rfl ?_
      refine or_call3 (hT.k3) (fun hq cc => kX11_65_4 ho hN (c_R4_below _ _ hT hc hS hk hst hq) dX11_down_53 hq (by omega) (Nat.le_of_ble_eq_true rfl) (Nat.le_of_ble_eq_true rfl) (Nat.le_of_ble_eq_true rfl) cc) (fun hq cc => kX11_65_5 ho hN (c_R5_below _ _ hT hc hS hk hst hq) dX11_down_53 hq (by omega) (Nat.le_of_ble_eq_true rfl) (Nat.le_of_ble_eq_true rfl) (Nat.le_of_ble_eq_true rfl) cc) (fun hq cc => kX11_65_12 ho hN (c_R12_below _ _ hT hc hS hk hst hq) dX11_down_53 hq (by omega) (Nat.le_of_ble_eq_true rfl) (Nat.le_of_ble_eq_true rfl) (Nat.le_of_ble_eq_true rfl) cc) (fun x53 u53 h53 => ?_)
      obtain ⟨rfl, hq⟩ := h53
      refine fin _ _ ?_
      rcases hq with ⟨z1, z2⟩ | ⟨z1, z2, z3⟩
      · exact Or.inl ⟨z1, fun x hx _ => z2 x hx⟩
      · refine Or.inr ⟨z1, z2, fun a ha => ?_, fun x hx _ ho => z3 x hx ho⟩
        rcases hlo0 with z | ⟨z, a', e, hn⟩
        · rw [z] at ha; cases ha
        · rw [e] at ha
          cases ha
          rcases (okB_eq (z.lt hw).2.2).mp z2 with q | q
          · exact li_tr q hn
          · rw [q.2]; exact hn
    · exact absurd rfl c29
  refine z_aload_n ho dX11_down_0 rfl ?_
  refine gX11_20 ho dX11_down_1 kv ?_
  refine z_ifnull (tgt := 26) ho dX11_down_4 (by decide) (fun c4 => ?_) (fun c4 => ?_)
  · exact P0 (Or.inl (ch.1 c4))
  · obtain ⟨k1, e1⟩ := ch.2 c4
    refine z_aload_n ho dX11_down_7 rfl ?_
    refine z_ifnull (tgt := 22) ho dX11_down_8 (by decide) (fun c8 => ?_) (fun c8 => ?_)
    · exact P1 k1 e1 (Or.inl c8)
    · have hk := hk.resolve_left c8
      refine z_aload_n ho dX11_down_11 rfl ?_
      refine gX11_20 ho dX11_down_12 kv ?_
      refine z_aload_n ho dX11_down_15 rfl ?_
      refine kX11_27 ho hN (c_compareTo _ _ k1 hk) dX11_down_16 k1.1 (Nat.le_of_ble_eq_true rfl) (Nat.le_of_ble_eq_true rfl) (Nat.le_of_ble_eq_true rfl) (Nat.le_of_ble_eq_true rfl) (fun x16 u16 h16 => ?_)
      obtain ⟨rfl, rfl⟩ := h16
      refine z_if_gt (tgt := 26) ho dX11_down_19 (by decide) (cmp_rng _ _) (fun c19 => ?_) (fun c19 => ?_)
      · exact P0 (Or.inr ⟨hk, _, e1, cmp_pos.mp (by omega)⟩)
      · exact P1 k1 e1 (Or.inr (fun z => by have := cmp_pos.mpr z; omega))
/-- in the view's own order -/
theorem c_after (l : Launch) (u : Mem) {G : Nat → Prop} {v t k : Nat} {S : List Nat} {st : Int} {lo hi : Option (List Int)} (hV : Vw u v t lo hi) (hT : TP G u t S) (hc : iv_ u t 0 = S.length) (hS : S.length ≤ 64) (hk : k = 0 ∨ Ky u k) (hst : st = 0 ∨ st = 1) (htu : iv_ u v 3 = 0 ∨ iv_ u v 3 = 1) : Mt_ l yX11_after cX11_after 3 (some (.object "KeyHall$Entry")) 1102 0 0 [aR v, aR k, aI st] u (qR fun r u' => u = u' ∧ (iv_ u v 3 = 0 → qUp u S lo hi k st r) ∧ (iv_ u v 3 = 1 → qDn u S lo hi k st r)) := by
  have kv := hV.1
  refine Mt_of (by decide) (Nat.le_of_ble_eq_true rfl) (fun X ho hX hN hI => ?_)
  subst hX
  show Z X 0 [some (aR v), some (aR k), some (aI st)] [] u 0 0
  refine z_aload_n ho dX11_after_0 rfl ?_
  refine gX11_23 ho dX11_after_1 kv ?_
  refine z_if_eq (tgt := 16) ho dX11_after_4 (by decide) (by unfold rng; omega) (fun c4 => ?_) (fun c4 => ?_)
  · 
    refine z_aload_n ho dX11_after_16 rfl ?_
    refine z_aload_n ho dX11_after_17 rfl ?_
    refine z_iload_n ho dX11_after_18 rfl ?_
    refine kX11_71 ho hN (c_up _ _ hV hT hc hS hk hst) dX11_after_19 kv (by omega) (Nat.le_of_ble_eq_true rfl) (Nat.le_of_ble_eq_true rfl) (Nat.le_of_ble_eq_true rfl) (fun x19 u19 h19 => ?_)
    obtain ⟨rfl, hq⟩ := h19
    refine r_R ho dX11_after_22 (Nat.le_of_ble_eq_true rfl) (Nat.le_of_ble_eq_true rfl) ?_
    exact ⟨rfl, fun _ => hq, fun z => by omega⟩
  · 
    refine z_aload_n ho dX11_after_7 rfl ?_
    refine z_aload_n ho dX11_after_8 rfl ?_
    refine z_iload_n ho dX11_after_9 rfl ?_
    refine kX11_68 ho hN (c_down _ _ hV hT hc hS hk hst) dX11_after_10 kv (by omega) (Nat.le_of_ble_eq_true rfl) (Nat.le_of_ble_eq_true rfl) (Nat.le_of_ble_eq_true rfl) (fun x10 u10 h10 => ?_)
    obtain ⟨rfl, hq⟩ := h10
    refine z_goto (tgt := 22) ho dX11_after_13 (by decide) ?_
    refine r_R ho dX11_after_22 (Nat.le_of_ble_eq_true rfl) (Nat.le_of_ble_eq_true rfl) ?_
    exact ⟨rfl, fun z => absurd z c4, fun _ => hq⟩
theorem c_before (l : Launch) (u : Mem) {G : Nat → Prop} {v t k : Nat} {S : List Nat} {st : Int} {lo hi : Option (List Int)} (hV : Vw u v t lo hi) (hT : TP G u t S) (hc : iv_ u t 0 = S.length) (hS : S.length ≤ 64) (hk : k = 0 ∨ Ky u k) (hst : st = 0 ∨ st = 1) (htu : iv_ u v 3 = 0 ∨ iv_ u v 3 = 1) : Mt_ l yX11_before cX11_before 3 (some (.object "KeyHall$Entry")) 1102 0 0 [aR v, aR k, aI st] u (qR fun r u' => u = u' ∧ (iv_ u v 3 = 0 → qDn u S lo hi k st r) ∧ (iv_ u v 3 = 1 → qUp u S lo hi k st r)) := by
  have kv := hV.1
  refine Mt_of (by decide) (Nat.le_of_ble_eq_true rfl) (fun X ho hX hN hI => ?_)
  subst hX
  show Z X 0 [some (aR v), some (aR k), some (aI st)] [] u 0 0
  refine z_aload_n ho dX11_before_0 rfl ?_
  refine gX11_23 ho dX11_before_1 kv ?_
  refine z_if_eq (tgt := 16) ho dX11_before_4 (by decide) (by unfold rng; omega) (fun c4 => ?_) (fun c4 => ?_)
  · 
    refine z_aload_n ho dX11_before_16 rfl ?_
    refine z_aload_n ho dX11_before_17 rfl ?_
    refine z_iload_n ho dX11_before_18 rfl ?_
    refine kX11_68 ho hN (c_down _ _ hV hT hc hS hk hst) dX11_before_19 kv (by omega) (Nat.le_of_ble_eq_true rfl) (Nat.le_of_ble_eq_true rfl) (Nat.le_of_ble_eq_true rfl) (fun x19 u19 h19 => ?_)
    obtain ⟨rfl, hq⟩ := h19
    refine r_R ho dX11_before_22 (Nat.le_of_ble_eq_true rfl) (Nat.le_of_ble_eq_true rfl) ?_
    exact ⟨rfl, fun _ => hq, fun z => by omega⟩
  · 
    refine z_aload_n ho dX11_before_7 rfl ?_
    refine z_aload_n ho dX11_before_8 rfl ?_
    refine z_iload_n ho dX11_before_9 rfl ?_
    refine kX11_71 ho hN (c_up _ _ hV hT hc hS hk hst) dX11_before_10 kv (by omega) (Nat.le_of_ble_eq_true rfl) (Nat.le_of_ble_eq_true rfl) (Nat.le_of_ble_eq_true rfl) (fun x10 u10 h10 => ?_)
    obtain ⟨rfl, hq⟩ := h10
    refine z_goto (tgt := 22) ho dX11_before_13 (by decide) ?_
    refine r_R ho dX11_before_22 (Nat.le_of_ble_eq_true rfl) (Nat.le_of_ble_eq_true rfl) ?_
    exact ⟨rfl, fun z => absurd z c4, fun _ => hq⟩
