set_option maxRecDepth 100000
/-! ===== KeyHallModel: side, nearest, longest, tell, find ===== -/
/-- the order of a way -/
def ltW (w : Int) (s t : List Int) : Prop := (w = 0 ∧ s < t) ∨ (w = 1 ∧ t < s)
def okW (w : Int) (o : Option (List Int)) (st : Int) (s : List Int) : Prop := ∀ t, o = some t → ltW w t s ∨ (st = 0 ∧ s = t)
theorem ltW.tr {w : Int} {s t r : List Int} (h : ltW w s t) (g : ltW w t r) : ltW w s r := by
  rcases h with ⟨h1, h2⟩ | ⟨h1, h2⟩
  · rcases g with ⟨g1, g2⟩ | ⟨g1, g2⟩
    · exact Or.inl ⟨h1, li_tr h2 g2⟩
    · omega
  · rcases g with ⟨g1, g2⟩ | ⟨g1, g2⟩
    · omega
    · exact Or.inr ⟨h1, li_tr g2 h2⟩
theorem ltW.irr {w : Int} {s : List Int} (h : ltW w s s) : False := by
  rcases h with ⟨-, h⟩ | ⟨-, h⟩ <;> exact li_irr _ h
/-- nearest keys, of a way -/
theorem Nr.toW {w st : Int} {R : List Int → Prop} {o : Option (List Int)} {L : List KV} {q : Option KV} (h : Nr w R o st L q) : (w = 0 ∨ w = 1) ∧ ((q = none ∧ ∀ p ∈ L, ¬ (R p.1 ∧ okW w o st p.1)) ∨ (∃ p, q = some p ∧ p ∈ L ∧ (R p.1 ∧ okW w o st p.1) ∧ ∀ p' ∈ L, (R p'.1 ∧ okW w o st p'.1) → p'.1 = p.1 ∨ ltW w p.1 p'.1)) := by
  have e0 : ∀ s, okW 0 o st s ↔ okU o st s := fun s => by
    unfold okW okU ltW
    refine ⟨fun h t ht => ?_, fun h t ht => ?_⟩
    · rcases h t ht with (z | z) | z
      · exact Or.inl z.2
      · omega
      · exact Or.inr z
    · rcases h t ht with z | z
      · exact Or.inl (Or.inl ⟨rfl, z⟩)
      · exact Or.inr z
  have e1 : ∀ s, okW 1 o st s ↔ okD o st s := fun s => by
    unfold okW okD ltW
    refine ⟨fun h t ht => ?_, fun h t ht => ?_⟩
    · rcases h t ht with (z | z) | z
      · omega
      · exact Or.inl z.2
      · exact Or.inr z
    · rcases h t ht with z | z
      · exact Or.inl (Or.inr ⟨rfl, z⟩)
      · exact Or.inr z
  rcases h with ⟨rfl, h⟩ | ⟨rfl, h⟩
  · refine ⟨Or.inl rfl, ?_⟩
    rcases h with ⟨h1, h2⟩ | ⟨p, h1, h2, h3, h4⟩
    · exact Or.inl ⟨h1, fun p hp z => h2 p hp ⟨z.1, (e0 _).mp z.2⟩⟩
    · refine Or.inr ⟨p, h1, h2, ⟨h3.1, (e0 _).mpr h3.2⟩, fun p' hp' z => ?_⟩
      rcases h4 p' hp' ⟨z.1, (e0 _).mp z.2⟩ with y | y
      · exact Or.inl y
      · exact Or.inr (Or.inl ⟨rfl, y⟩)
  · refine ⟨Or.inr rfl, ?_⟩
    rcases h with ⟨h1, h2⟩ | ⟨p, h1, h2, h3, h4⟩
    · exact Or.inl ⟨h1, fun p hp z => h2 p hp ⟨z.1, (e1 _).mp z.2⟩⟩
    · refine Or.inr ⟨p, h1, h2, ⟨h3.1, (e1 _).mpr h3.2⟩, fun p' hp' z => ?_⟩
      rcases h4 p' hp' ⟨z.1, (e1 _).mp z.2⟩ with y | y
      · exact Or.inl y
      · exact Or.inr (Or.inr ⟨rfl, y⟩)
/-- the order of two texts in a view, as a number -/
def SoW (w r : Int) (s t : List Int) : Prop := rng r ∧ (r = 0 ↔ s = t) ∧ (r < 0 ↔ ltW w s t) ∧ (0 < r ↔ ltW w t s)
theorem c_side (l : Launch) (u : Mem) {m i j k b : Nat} {at_ : Int} {VL : List VS} {vs : VS} {M : Nat → List KV} {ch : Nat → Int} {p : KV} {t : List Int} (hm : MF u m) (hV : MV u m VL) (hK : MM u m M ch) (hi : i < 3) (hj : VL[j]? = some vs) (hk : (M i)[k]? = some p) (hb : TA u b at_ t) : Mt_ l yX13_side cX13_side 6 (some .int) 2 0 0 [aR m, aI (j : Int), aI (64 * (i : Int) + (k : Int)), aR b, aI at_, aI t.length] u (qI fun r w => u = w ∧ SoW vs.2.2.1 r p.1 t) := by
  obtain ⟨q1, q2, q3, q4, q5, q6⟩ := hK.key hm hi hk
  have tu := (hV.2.2 j vs hj).2.1
  have gt : ∀ r : Int, So r p.1 t → (0 < r ↔ t < p.1) := fun r hs => by
    have h1 := hs.2.1
    have h2 := hs.2.2
    constructor
    · intro z
      rcases li_tot p.1 t with y | y | y
      · have := h1.mpr y; omega
      · have := h2.mpr y; omega
      · exact y
    · intro z
      rcases Int.lt_trichotomy r 0 with y | y | y
      · exact absurd (h1.mp y) (li_as z)
      · have := h2.mp y; rw [this] at z; exact absurd z (li_irr _)
      · exact y
  refine Mt_of (by decide) (Nat.le_of_ble_eq_true rfl) (fun X ho hX hN hI => ?_)
  subst hX
  show Z X 0 [some (aR m), some (aI  (j : Int)), some (aI  (64 * (i : Int) + (k : Int))), some (aR b), some (aI at_), some (aI t.length)] [] u 0 0
  refine z_aload_n ho dX13_side_0 rfl ?_
  refine z_iload_n ho dX13_side_1 rfl ?_
  refine kX13_147 ho hN (c_isTurned _ _ hm hV hj) dX13_side_2 hm.1 (Nat.le_of_ble_eq_true rfl) (Nat.le_of_ble_eq_true rfl) (Nat.le_of_ble_eq_true rfl) (Nat.le_of_ble_eq_true rfl) (fun x2 u2 h2 => ?_)
  obtain ⟨rfl, rfl⟩ := h2
  refine z_if_eq (tgt := 22) ho dX13_side_5 (by decide) (by unfold rng; omega) (fun c5 => ?_) (fun c5 => ?_)
  · 
    refine z_aload_n ho dX13_side_22 rfl ?_
    refine z_iload_n ho dX13_side_23 rfl ?_
    refine z_aload_n ho dX13_side_24 rfl ?_
    refine z_iload ho dX13_side_25 rfl ?_
    refine z_iload ho dX13_side_27 rfl ?_
    refine kX13_129 ho hN (c_orderOf _ _ hm (by omega) (by omega) q1 q2 hb) dX13_side_29 hm.1 (Nat.le_of_ble_eq_true rfl) (Nat.le_of_ble_eq_true rfl) (Nat.le_of_ble_eq_true rfl) (Nat.le_of_ble_eq_true rfl) (fun x29 u29 h29 => ?_)
    obtain ⟨rfl, hs⟩ := h29
    refine r_I ho dX13_side_32 (Nat.le_of_ble_eq_true rfl) (Nat.le_of_ble_eq_true rfl) ?_
    have g := gt _ hs
    refine ⟨rfl, hs.rg, hs.2.2, ?_, ?_⟩
    · rw [hs.2.1]; exact ⟨fun z => Or.inl ⟨c5, z⟩, fun z => by rcases z with z | z; (· exact z.2); omega⟩
    · rw [g]; exact ⟨fun z => Or.inl ⟨c5, z⟩, fun z => by rcases z with z | z; (· exact z.2); omega⟩
  · have c1 : vs.2.2.1 = 1 := by omega
    refine z_aload_n ho dX13_side_8 rfl ?_
    refine z_iload_n ho dX13_side_9 rfl ?_
    refine z_aload_n ho dX13_side_10 rfl ?_
    refine z_iload ho dX13_side_11 rfl ?_
    refine z_iload ho dX13_side_13 rfl ?_
    refine kX13_129 ho hN (c_orderOf _ _ hm (by omega) (by omega) q1 q2 hb) dX13_side_15 hm.1 (Nat.le_of_ble_eq_true rfl) (Nat.le_of_ble_eq_true rfl) (Nat.le_of_ble_eq_true rfl) (Nat.le_of_ble_eq_true rfl) (fun x15 u15 h15 => ?_)
    obtain ⟨rfl, hs⟩ := h15
    refine z_ineg ho dX13_side_18 ?_
    refine z_goto (tgt := 32) ho dX13_side_19 (by decide) ?_
    refine r_I ho dX13_side_32 (Nat.le_of_ble_eq_true rfl) (Nat.le_of_ble_eq_true rfl) ?_
    have g := gt _ hs
    have hr := hs.1
    refine ⟨rfl, by unfold rng; omega, by rw [← hs.2.2]; omega, ?_, ?_⟩
    · rw [show (-x15 < 0 ↔ 0 < x15) by omega, g]; exact ⟨fun z => Or.inr ⟨c1, z⟩, fun z => by rcases z with z | z; (· omega); exact z.2⟩
    · rw [show (0 < -x15 ↔ x15 < 0) by omega, hs.2.1]; exact ⟨fun z => Or.inr ⟨c1, z⟩, fun z => by rcases z with z | z; (· omega); exact z.2⟩
/-- the best of the first k -/
def Bs_ (P : List Int → Prop) (w : Int) (L : List KV) (base : Int) (k : Nat) (b : Int) : Prop := (b = -1 ∧ ∀ (j : Nat) p, j < k → L[j]? = some p → ¬ P p.1) ∨ (∃ (j : Nat) (p : KV), j < k ∧ L[j]? = some p ∧ b = base + (j : Int) ∧ P p.1 ∧ ∀ (j' : Nat) p', j' < k → L[j']? = some p' → P p'.1 → p'.1 = p.1 ∨ ltW w p.1 p'.1)
theorem lt_or_eq' {j k : Nat} (h : j < k + 1) : j < k ∨ j = k := by omega
theorem Bs_.skip {P : List Int → Prop} {w : Int} {L : List KV} {base b : Int} {k : Nat} {p : KV} (h : Bs_ P w L base k b) (hk : L[k]? = some p) (hn : ¬ P p.1) : Bs_ P w L base (k + 1) b := by
  rcases h with ⟨h1, h2⟩ | ⟨j, pj, h1, h2, h3, h4, h5⟩
  · refine Or.inl ⟨h1, fun j q hj hq => ?_⟩
    rcases lt_or_eq' hj with z | z
    · exact h2 j q z hq
    · rw [z, hk] at hq; cases hq; exact hn
  · refine Or.inr ⟨j, pj, by omega, h2, h3, h4, fun j' q hj hq hP => ?_⟩
    rcases lt_or_eq' hj with z | z
    · exact h5 j' q z hq hP
    · rw [z, hk] at hq; cases hq; exact absurd hP hn
theorem Bs_.take {P : List Int → Prop} {w : Int} {L : List KV} {base b : Int} {k : Nat} {p : KV} (h : Bs_ P w L base k b) (hk : L[k]? = some p) (hP : P p.1) (hb : b = -1 ∨ ∃ (j : Nat) (pj : KV), L[j]? = some pj ∧ b = base + (j : Int) ∧ ltW w p.1 pj.1) (hbase : 0 ≤ base) : Bs_ P w L base (k + 1) (base + (k : Int)) := by
  refine Or.inr ⟨k, p, by omega, hk, rfl, hP, fun j' q hj hq hPq => ?_⟩
  rcases lt_or_eq' hj with z | z
  · rcases h with ⟨h1, h2⟩ | ⟨j, pj, h1, h2, h3, h4, h5⟩
    · exact absurd hPq (h2 j' q z hq)
    · rcases hb with y | ⟨j2, pj2, y1, y2, y3⟩
      · omega
      · have : j2 = j := by omega
        subst this
        rw [h2] at y1
        cases y1
        rcases h5 j' q z hq hPq with x | x
        · right; rw [x]; exact y3
        · exact Or.inr (y3.tr x)
  · rw [z, hk] at hq; cases hq; exact Or.inl rfl
theorem Bs_.keep {P : List Int → Prop} {w : Int} {L : List KV} {base : Int} {k j : Nat} {p pj : KV} (h : Bs_ P w L base k (base + (j : Int))) (hk : L[k]? = some p) (hj : L[j]? = some pj) (hn : p.1 = pj.1 ∨ ltW w pj.1 p.1) (hbase : 0 ≤ base) : Bs_ P w L base (k + 1) (base + (j : Int)) := by
  rcases h with ⟨h1, h2⟩ | ⟨j2, pj2, h1, h2, h3, h4, h5⟩
  · omega
  · have : j2 = j := by omega
    subst this
    rw [hj] at h2
    cases h2
    refine Or.inr ⟨j2, pj, by omega, hj, rfl, h4, fun j' q hj' hq hPq => ?_⟩
    rcases lt_or_eq' hj' with z | z
    · exact h5 j' q z hq hPq
    · rw [z, hk] at hq; cases hq; exact hn
/-- the answer -/
def isK (L : List KV) (base r : Int) (q : Option KV) : Prop := (q = none ∧ r = -1) ∨ (∃ (k : Nat) (p : KV), q = some p ∧ L[k]? = some p ∧ r = base + (k : Int))
theorem Bs_.fin {P : List Int → Prop} {w : Int} {L : List KV} {base b : Int} {q : Option KV} (h : Bs_ P w L base L.length b) (hnd : (L.map Prod.fst).Nodup) (hq : (q = none ∧ ∀ p ∈ L, ¬ P p.1) ∨ (∃ p, q = some p ∧ p ∈ L ∧ P p.1 ∧ ∀ p' ∈ L, P p'.1 → p'.1 = p.1 ∨ ltW w p.1 p'.1)) : isK L base b q := by
  rcases h with ⟨h1, h2⟩ | ⟨j, pj, h1, h2, h3, h4, h5⟩
  · refine Or.inl ⟨?_, h1⟩
    rcases hq with z | ⟨p, -, z1, z2, -⟩
    · exact z.1
    · obtain ⟨i, hi, hip⟩ := List.mem_iff_getElem.mp z1
      exact absurd z2 (h2 i p hi (by rw [List.getElem?_eq_getElem hi, hip]))
  · rcases hq with ⟨-, z⟩ | ⟨p, z0, z1, z2, z3⟩
    · exact absurd h4 (z pj (List.mem_of_getElem? h2))
    · obtain ⟨i, hi, hip⟩ := List.mem_iff_getElem.mp z1
      have hi' : L[i]? = some p := by rw [List.getElem?_eq_getElem hi, hip]
      have he : pj.1 = p.1 := by
        rcases z3 pj (List.mem_of_getElem? h2) h4 with y | y
        · exact y
        · rcases h5 i p hi hi' z2 with x | x
          · exact x.symm
          · exact absurd (y.tr x) (fun z => z.irr)
      have hij : i = j := by
        have l1 : i < (L.map Prod.fst).length := by rw [List.length_map]; exact hi
        refine (List.getElem?_inj l1 hnd).mp ?_
        rw [List.getElem?_map, List.getElem?_map, hi', h2]
        simp [he]
      subst hij
      exact Or.inr ⟨i, p, z0, hi', h3⟩
/-- a text, or none -/
def TxO (u : Mem) (b : Nat) (at_ mm : Int) (o : Option (List Int)) : Prop := (o = none ∧ mm = -1) ∨ (∃ t, o = some t ∧ TA u b at_ t ∧ mm = (t.length : Int))
theorem c_mnear (l : Launch) (u : Mem) {m j b : Nat} {bh sm at_ mm : Int} {VL : List VS} {vs : VS} {M : Nat → List KV} {ch : Nat → Int} {o : Option (List Int)} {q : Option KV} (hm : MF u m) (hV : MV u m VL) (hK : MM u m M ch) (hj : VL[j]? = some vs) (hbh : bh = 0 ∨ bh = 1) (hsm : sm = 0 ∨ sm = 1) (ho' : TxO u b at_ mm o) (hN : Nr (if bh = 1 then vs.2.2.1 else 1 - vs.2.2.1) vs.2.1 o (1 - sm) (M vs.1) q) :
    Mt_ l yX13_nearest cX13_nearest 13 (some .int) 4 0 0 [aR m, aI (j : Int), aI bh, aI sm, aR b, aI at_, aI mm] u (qI fun r w => u = w ∧ isK (M vs.1) (64 * (vs.1 : Int)) r q) := by
  obtain ⟨-, hW⟩ := hN.toW
  have v3 := (hV.2.2 j vs hj).1
  have tu := (hV.2.2 j vs hj).2.1
  obtain ⟨g1, g2, g3, g4, -⟩ := hK vs.1 v3
  have rmm : rng mm := by
    rcases ho' with ⟨-, z⟩ | ⟨t, -, z, z'⟩
    · unfold rng; omega
    · have := z.2.2.2.2.1; unfold rng; omega
  generalize hw : (if bh = 1 then vs.2.2.1 else 1 - vs.2.2.1) = w at *
  -- the order of the way and that of the view
  have wlt : ∀ s t, ltW w s t ↔ ((bh = 1 ∧ ltW vs.2.2.1 s t) ∨ (bh = 0 ∧ ltW vs.2.2.1 t s)) := fun s t => by
    rw [← hw]
    unfold ltW
    rcases hbh with z | z
    · subst z
      rw [if_neg (by decide)]
      constructor
      · rintro (⟨y1, y2⟩ | ⟨y1, y2⟩)
        · exact Or.inr ⟨rfl, Or.inr ⟨by omega, y2⟩⟩
        · exact Or.inr ⟨rfl, Or.inl ⟨by omega, y2⟩⟩
      · rintro (⟨y1, -⟩ | ⟨-, ⟨y1, y2⟩ | ⟨y1, y2⟩⟩)
        · omega
        · exact Or.inr ⟨by omega, y2⟩
        · exact Or.inl ⟨by omega, y2⟩
    · subst z
      rw [if_pos rfl]
      constructor
      · intro y; exact Or.inl ⟨rfl, y⟩
      · rintro (⟨-, y⟩ | ⟨y, -⟩)
        · exact y
        · omega
  refine Mt_of (by decide) (Nat.le_of_ble_eq_true rfl) (fun X ho hX hN hI => ?_)
  subst hX
  show Z X 0 [some (aR m), some (aI  (j : Int)), some (aI bh), some (aI sm), some (aR b), some (aI at_), some (aI mm), none, none, none, none, none, none] [] u 0 0
  have key : ∀ (d k : Nat) (bst : Int), d + k = (M vs.1).length → Bs_ (fun s => vs.2.1 s ∧ okW w o (1 - sm) s) w (M vs.1) (64 * (vs.1 : Int)) k bst → Z X 13 [some (aR m), some (aI (j : Int)), some (aI bh), some (aI sm), some (aR b), some (aI at_), some (aI mm), some (aI (vs.1 : Int)), some (aI bst), some (aI (k : Int)), none, none, none] [] u 0 0 := by
    intro d
    induction d with
    | zero =>
      intro k bst hk hB
      refine z_iload ho dX13_nearest_13 rfl ?_
      refine z_aload_n ho dX13_nearest_15 rfl ?_
      refine gX13_13 ho dX13_nearest_16 hm.1 (mget hm.r3 ?_)
      refine z_iload ho dX13_nearest_19 rfl ?_
      refine z_iald ho dX13_nearest_21 hm.k2 (by omega) (hm.t2 (by omega)) ?_
      refine z_icmp_ge (tgt := 178) ho dX13_nearest_22 (by decide) (by unfold rng; omega) (by rw [g1]; unfold rng; omega) (fun c22 => ?_) (fun c22 => ?_)
      · 
        refine z_iload ho dX13_nearest_178 rfl ?_
        refine r_I ho dX13_nearest_180 (Nat.le_of_ble_eq_true rfl) (Nat.le_of_ble_eq_true rfl) ?_
        have hkl : k = (M vs.1).length := by omega
        rw [hkl] at hB
        exact ⟨rfl, hB.fin g4 hW⟩
      · omega
    | succ d ih =>
      intro k bst hk hB
      have hkp : (M vs.1)[k]? = some (M vs.1)[k] := List.getElem?_eq_getElem (by omega)
      generalize (M vs.1)[k] = p at hkp
      have rbst : rng bst ∧ -1 ≤ bst := by
        rcases hB with ⟨z, -⟩ | ⟨j2, p2, z1, z2, z3, -⟩
        · rw [z]; unfold rng; omega
        · rw [z3]; unfold rng; omega
      have t172 : ∀ (b2 : Int) (o11 o12 : Option AV), Bs_ (fun s => vs.2.1 s ∧ okW w o (1 - sm) s) w (M vs.1) (64 * (vs.1 : Int)) (k + 1) b2 → Z X 172 [some (aR m), some (aI (j : Int)), some (aI bh), some (aI sm), some (aR b), some (aI at_), some (aI mm), some (aI (vs.1 : Int)), some (aI b2), some (aI (k : Int)), some (aI (64 * (vs.1 : Int) + (k : Int))), o11, o12] [] u 0 0 := fun b2 o11 o12 h2 => by
        refine z_iinc ho dX13_nearest_172 rfl rfl ?_
        refine z_goto (tgt := 13) ho dX13_nearest_175 (by decide) ?_
        refine z_wk ?_ (ih (k + 1) b2 (by omega) h2)
        exact ⟨rfl, rfl, rfl, rfl, rfl, rfl, rfl, rfl, rfl, rfl, trivial⟩
      -- it is one of them
      have t110 : ∀ s : Int, vs.2.1 p.1 ∧ okW w o (1 - sm) p.1 → Z X 110 [some (aR m), some (aI (j : Int)), some (aI bh), some (aI sm), some (aR b), some (aI at_), some (aI mm), some (aI (vs.1 : Int)), some (aI bst), some (aI (k : Int)), some (aI (64 * (vs.1 : Int) + (k : Int))), some (aI s), none] [] u 0 0 := fun s hP => by
        rcases hB with ⟨z, z'⟩ | ⟨j2, p2, z1, z2, z3, z4, z5⟩
        · subst z
          refine z_iload ho dX13_nearest_110 rfl ?_
          refine z_iconst ho dX13_nearest_112 ?_
          refine z_icmp_ne (tgt := 120) ho dX13_nearest_113 (by decide) (by unfold rng; omega) (by unfold rng; omega) (fun c113 => ?_) (fun c113 => ?_)
          · exact absurd rfl c113
          · 
            refine z_iconst ho dX13_nearest_116 ?_
            refine z_goto (tgt := 143) ho dX13_nearest_117 (by decide) ?_
            refine z_istore ho dX13_nearest_143 (Nat.le_of_ble_eq_true rfl) rfl ?_
            refine z_iload ho dX13_nearest_145 rfl ?_
            refine z_iconst ho dX13_nearest_147 ?_
            refine z_icmp_eq (tgt := 168) ho dX13_nearest_148 (by decide) (by unfold rng; omega) (by unfold rng; omega) (fun c148 => ?_) (fun c148 => ?_)
            · 
              refine z_iload ho dX13_nearest_168 rfl ?_
              refine z_istore ho dX13_nearest_170 (Nat.le_of_ble_eq_true rfl) rfl ?_
              exact t172 _ _ _ (Bs_.take (Or.inl ⟨rfl, z'⟩) hkp hP (Or.inl rfl) (by omega))
            · exact absurd rfl c148
        · subst z3
          obtain ⟨q1, q2, q3, q4, q5, q6⟩ := hK.key hm v3 z2
          have hB' : Bs_ (fun s => vs.2.1 s ∧ okW w o (1 - sm) s) w (M vs.1) (64 * (vs.1 : Int)) k (64 * (vs.1 : Int) + (j2 : Int)) := Or.inr ⟨j2, p2, z1, z2, rfl, z4, z5⟩
          refine z_iload ho dX13_nearest_110 rfl ?_
          refine z_iconst ho dX13_nearest_112 ?_
          refine z_icmp_ne (tgt := 120) ho dX13_nearest_113 (by decide) (by unfold rng; omega) (by unfold rng; omega) (fun c113 => ?_) (fun c113 => ?_)
          · 
            refine z_aload_n ho dX13_nearest_120 rfl ?_
            refine z_iload_n ho dX13_nearest_121 rfl ?_
            refine z_iload ho dX13_nearest_122 rfl ?_
            refine z_aload_n ho dX13_nearest_124 rfl ?_
            refine gX13_19 ho dX13_nearest_125 hm.1 (mget hm.r5 ?_)
            refine z_bipush ho dX13_nearest_128 rfl ?_
            refine z_iload ho dX13_nearest_130 rfl ?_
            refine z_imul ho dX13_nearest_132 ?_
            refine z_aload_n ho dX13_nearest_133 rfl ?_
            refine gX13_22 ho dX13_nearest_134 hm.1 (mget hm.r6 ?_)
            refine z_iload ho dX13_nearest_137 rfl ?_
            refine z_iald ho dX13_nearest_139 hm.k5 (by omega) (hm.t5 (by omega)) ?_
            rw [q1]
            refine kX13_150 ho hN (c_side _ _ hm hV hK v3 hj hkp q2) dX13_nearest_140 hm.1 (Nat.le_of_ble_eq_true rfl) (Nat.le_of_ble_eq_true rfl) (Nat.le_of_ble_eq_true rfl) (Nat.le_of_ble_eq_true rfl) (fun x140 u140 h140 => ?_)
            obtain ⟨rfl, hs⟩ := h140
            refine z_istore ho dX13_nearest_143 (Nat.le_of_ble_eq_true rfl) rfl ?_
            refine z_iload ho dX13_nearest_145 rfl ?_
            refine z_iconst ho dX13_nearest_147 ?_
            refine z_icmp_eq (tgt := 168) ho dX13_nearest_148 (by decide) (by unfold rng; omega) (by unfold rng; omega) (fun c148 => ?_) (fun c148 => ?_)
            · omega
            · have hlt := wlt p.1 p2.1
              have hgt := wlt p2.1 p.1
              have keep : ¬ ltW w p.1 p2.1 → Bs_ (fun s => vs.2.1 s ∧ okW w o (1 - sm) s) w (M vs.1) (64 * (vs.1 : Int)) (k + 1) (64 * (vs.1 : Int) + (j2 : Int)) := fun hn => by
                refine hB'.keep hkp z2 ?_ (by omega)
                rcases Int.lt_trichotomy x140 0 with y | y | y
                · rcases hbh with x | x
                  · exact Or.inr (hgt.mpr (Or.inr ⟨x, hs.2.2.1.mp y⟩))
                  · exact absurd (hlt.mpr (Or.inl ⟨x, hs.2.2.1.mp y⟩)) hn
                · exact Or.inl (hs.2.1.mp y)
                · rcases hbh with x | x
                  · exact absurd (hlt.mpr (Or.inr ⟨x, hs.2.2.2.mp y⟩)) hn
                  · exact Or.inr (hgt.mpr (Or.inl ⟨x, hs.2.2.2.mp y⟩))
              have t168 : ltW w p.1 p2.1 → Z X 168 [some (aR m), some (aI (j : Int)), some (aI bh), some (aI sm), some (aR b), some (aI at_), some (aI mm), some (aI (vs.1 : Int)), some (aI (64 * (vs.1 : Int) + (j2 : Int))), some (aI (k : Int)), some (aI (64 * (vs.1 : Int) + (k : Int))), some (aI s), some (aI x140)] [] u 0 0 := fun hl => by
                refine z_iload ho dX13_nearest_168 rfl ?_
                refine z_istore ho dX13_nearest_170 (Nat.le_of_ble_eq_true rfl) rfl ?_
                exact t172 _ _ _ (hB'.take hkp hP (Or.inr ⟨j2, p2, z2, rfl, hl⟩) (by omega))
              refine z_iload_n ho dX13_nearest_151 rfl ?_
              refine z_if_eq (tgt := 163) ho dX13_nearest_152 (by decide) (by unfold rng; omega) (fun c152 => ?_) (fun c152 => ?_)
              · 
                refine z_iload ho dX13_nearest_163 rfl ?_
                refine z_if_le (tgt := 172) ho dX13_nearest_165 (by decide) hs.1 (fun c165 => ?_) (fun c165 => ?_)
                · exact t172 _ _ _ (keep (fun z => by
                    rcases hlt.mp z with ⟨y, -⟩ | ⟨-, y⟩
                    · omega
                    · have := hs.2.2.2.mpr y; omega))
                · exact t168 (hlt.mpr (Or.inr ⟨c152, hs.2.2.2.mp c165⟩))
              · 
                refine z_iload ho dX13_nearest_155 rfl ?_
                refine z_if_ge (tgt := 172) ho dX13_nearest_157 (by decide) hs.1 (fun c157 => ?_) (fun c157 => ?_)
                · exact t172 _ _ _ (keep (fun z => by
                    rcases hlt.mp z with ⟨-, y⟩ | ⟨y, -⟩
                    · have := hs.2.2.1.mpr y; omega
                    · omega))
                · 
                  refine z_goto (tgt := 168) ho dX13_nearest_160 (by decide) ?_
                  exact t168 (hlt.mpr (Or.inl ⟨by omega, hs.2.2.1.mp c157⟩))
          · omega
      -- the way to it: s
      have t79 : ∀ s : Int, rng s → (s = 0 → (okW w o (1 - sm) p.1 ↔ sm = 1)) → (s ≠ 0 → (okW w o (1 - sm) p.1 ↔ ((0 < s ∧ bh = 1) ∨ (s < 0 ∧ bh = 0)))) → vs.2.1 p.1 → Z X 79 [some (aR m), some (aI (j : Int)), some (aI bh), some (aI sm), some (aR b), some (aI at_), some (aI mm), some (aI (vs.1 : Int)), some (aI bst), some (aI (k : Int)), some (aI (64 * (vs.1 : Int) + (k : Int))), none, none] [aI s] u 0 0 := fun s rs h0 h1 hR => by
        have no : ¬ okW w o (1 - sm) p.1 → Bs_ (fun s => vs.2.1 s ∧ okW w o (1 - sm) s) w (M vs.1) (64 * (vs.1 : Int)) (k + 1) bst := fun hn => hB.skip hkp (fun z => hn z.2)
        refine z_istore ho dX13_nearest_79 (Nat.le_of_ble_eq_true rfl) rfl ?_
        refine z_iload ho dX13_nearest_81 rfl ?_
        refine z_if_ne (tgt := 93) ho dX13_nearest_83 (by decide) rs (fun c83 => ?_) (fun c83 => ?_)
        · have h1 := h1 c83
          refine z_iload ho dX13_nearest_93 rfl ?_
          refine z_if_le (tgt := 102) ho dX13_nearest_95 (by decide) rs (fun c95 => ?_) (fun c95 => ?_)
          · 
            refine z_iconst ho dX13_nearest_102 ?_
            refine z_iload_n ho dX13_nearest_103 rfl ?_
            refine z_icmp_eq (tgt := 110) ho dX13_nearest_104 (by decide) (by unfold rng; omega) (by unfold rng; omega) (fun c104 => ?_) (fun c104 => ?_)
            · exact t110 s ⟨hR, h1.mpr (Or.inr ⟨by omega, by omega⟩)⟩
            · 
              refine z_goto (tgt := 172) ho dX13_nearest_107 (by decide) ?_
              exact t172 _ _ _ (no (fun z => by rcases h1.mp z with y | y <;> omega))
          · 
            refine z_iconst ho dX13_nearest_98 ?_
            refine z_goto (tgt := 103) ho dX13_nearest_99 (by decide) ?_
            refine z_iload_n ho dX13_nearest_103 rfl ?_
            refine z_icmp_eq (tgt := 110) ho dX13_nearest_104 (by decide) (by unfold rng; omega) (by unfold rng; omega) (fun c104 => ?_) (fun c104 => ?_)
            · exact t110 s ⟨hR, h1.mpr (Or.inl ⟨by omega, by omega⟩)⟩
            · 
              refine z_goto (tgt := 172) ho dX13_nearest_107 (by decide) ?_
              exact t172 _ _ _ (no (fun z => by rcases h1.mp z with y | y <;> omega))
        · have h0 := h0 c83
          refine z_iload_n ho dX13_nearest_86 rfl ?_
          refine z_if_ne (tgt := 110) ho dX13_nearest_87 (by decide) (by unfold rng; omega) (fun c87 => ?_) (fun c87 => ?_)
          · exact t110 s ⟨hR, h0.mpr (by omega)⟩
          · 
            refine z_goto (tgt := 172) ho dX13_nearest_90 (by decide) ?_
            exact t172 _ _ _ (no (fun z => by have := h0.mp z; omega))
      refine z_iload ho dX13_nearest_13 rfl ?_
      refine z_aload_n ho dX13_nearest_15 rfl ?_
      refine gX13_13 ho dX13_nearest_16 hm.1 (mget hm.r3 ?_)
      refine z_iload ho dX13_nearest_19 rfl ?_
      refine z_iald ho dX13_nearest_21 hm.k2 (by omega) (hm.t2 (by omega)) ?_
      refine z_icmp_ge (tgt := 178) ho dX13_nearest_22 (by decide) (by unfold rng; omega) (by rw [g1]; unfold rng; omega) (fun c22 => ?_) (fun c22 => ?_)
      · omega
      · 
        refine z_bipush ho dX13_nearest_25 rfl ?_
        refine z_iload ho dX13_nearest_27 rfl ?_
        refine z_imul ho dX13_nearest_29 ?_
        refine z_iload ho dX13_nearest_30 rfl ?_
        refine z_iadd ho dX13_nearest_32 ?_
        refine z_istore ho dX13_nearest_33 (Nat.le_of_ble_eq_true rfl) rfl ?_
        refine z_aload_n ho dX13_nearest_35 rfl ?_
        refine z_iload_n ho dX13_nearest_36 rfl ?_
        refine z_iload ho dX13_nearest_37 rfl ?_
        refine kX13_143 ho hN (c_mhas _ _ hm hV hK hj hkp) dX13_nearest_39 hm.1 (Nat.le_of_ble_eq_true rfl) (Nat.le_of_ble_eq_true rfl) (Nat.le_of_ble_eq_true rfl) (Nat.le_of_ble_eq_true rfl) (fun x39 u39 h39 => ?_)
        obtain ⟨rfl, hh⟩ := h39
        refine z_if_ne (tgt := 48) ho dX13_nearest_42 (by decide) (by rcases hh with ⟨z, -⟩ | ⟨z, -⟩ <;> rw [z] <;> unfold rng <;> omega) (fun c42 => ?_) (fun c42 => ?_)
        · have hR := (hh.resolve_right (fun z => c42 z.1)).2
          rcases ho' with ⟨z1, z2⟩ | ⟨t, z1, z2, z3⟩
          · subst z2
            have okn : okW w o (1 - sm) p.1 := fun t ht => by rw [z1] at ht; cases ht
            refine z_iload ho dX13_nearest_48 rfl ?_
            refine z_iconst ho dX13_nearest_50 ?_
            refine z_icmp_ne (tgt := 66) ho dX13_nearest_51 (by decide) (by unfold rng; omega) (by unfold rng; omega) (fun c51 => ?_) (fun c51 => ?_)
            · exact absurd rfl c51
            · 
              refine z_iload_n ho dX13_nearest_54 rfl ?_
              refine z_if_eq (tgt := 62) ho dX13_nearest_55 (by decide) (by unfold rng; omega) (fun c55 => ?_) (fun c55 => ?_)
              · 
                refine z_iconst ho dX13_nearest_62 ?_
                refine z_goto (tgt := 79) ho dX13_nearest_63 (by decide) ?_
                exact t79 (-1) (by unfold rng; omega) (fun z => by omega) (fun _ => ⟨fun _ => Or.inr ⟨by omega, c55⟩, fun _ => okn⟩) hR
              · 
                refine z_iconst ho dX13_nearest_58 ?_
                refine z_goto (tgt := 79) ho dX13_nearest_59 (by decide) ?_
                exact t79 1 (by unfold rng; omega) (fun z => by omega) (fun _ => ⟨fun _ => Or.inl ⟨by omega, by omega⟩, fun _ => okn⟩) hR
          · subst z3
            refine z_iload ho dX13_nearest_48 rfl ?_
            refine z_iconst ho dX13_nearest_50 ?_
            refine z_icmp_ne (tgt := 66) ho dX13_nearest_51 (by decide) rmm (by unfold rng; omega) (fun c51 => ?_) (fun c51 => ?_)
            · 
              refine z_aload_n ho dX13_nearest_66 rfl ?_
              refine z_iload_n ho dX13_nearest_67 rfl ?_
              refine z_iload ho dX13_nearest_68 rfl ?_
              refine z_aload ho dX13_nearest_70 rfl ?_
              refine z_iload ho dX13_nearest_72 rfl ?_
              refine z_iload ho dX13_nearest_74 rfl ?_
              refine kX13_150 ho hN (c_side _ _ hm hV hK v3 hj hkp z2) dX13_nearest_76 hm.1 (Nat.le_of_ble_eq_true rfl) (Nat.le_of_ble_eq_true rfl) (Nat.le_of_ble_eq_true rfl) (Nat.le_of_ble_eq_true rfl) (fun x76 u76 h76 => ?_)
              obtain ⟨rfl, hs⟩ := h76
              have hlt := wlt t p.1
              refine t79 _ hs.1 (fun z => ?_) (fun z => ?_) hR
              · have he := hs.2.1.mp z
                constructor
                · intro y
                  rcases y t z1 with x | x
                  · rw [he] at x; exact absurd x (fun z => z.irr)
                  · omega
                · intro y t' ht'
                  rw [z1] at ht'
                  cases ht'
                  exact Or.inr ⟨by omega, he⟩
              · constructor
                · intro y
                  rcases y t z1 with x | x
                  · rcases hlt.mp x with ⟨y1, y2⟩ | ⟨y1, y2⟩
                    · exact Or.inl ⟨hs.2.2.2.mpr y2, y1⟩
                    · exact Or.inr ⟨hs.2.2.1.mpr y2, y1⟩
                  · exact absurd (hs.2.1.mpr x.2) z
                · intro y t' ht'
                  rw [z1] at ht'
                  cases ht'
                  left
                  rcases y with ⟨y1, y2⟩ | ⟨y1, y2⟩
                  · exact hlt.mpr (Or.inl ⟨y2, hs.2.2.2.mp y1⟩)
                  · exact hlt.mpr (Or.inr ⟨y2, hs.2.2.1.mp y1⟩)
            · omega
        · 
          refine z_goto (tgt := 172) ho dX13_nearest_45 (by decide) ?_
          refine t172 _ _ _ (hB.skip hkp (fun z => ?_))
          exact (hh.resolve_left (fun z => by omega)).2 z.1
  refine z_aload_n ho dX13_nearest_0 rfl ?_
  refine z_iload_n ho dX13_nearest_1 rfl ?_
  refine kX13_114 ho hN (c_mapOf _ _ hm hV hj) dX13_nearest_2 hm.1 (Nat.le_of_ble_eq_true rfl) (Nat.le_of_ble_eq_true rfl) (Nat.le_of_ble_eq_true rfl) (Nat.le_of_ble_eq_true rfl) (fun x2 u2 h2 => ?_)
  obtain ⟨rfl, rfl⟩ := h2
  refine z_istore ho dX13_nearest_5 (Nat.le_of_ble_eq_true rfl) rfl ?_
  refine z_iconst ho dX13_nearest_7 ?_
  refine z_istore ho dX13_nearest_8 (Nat.le_of_ble_eq_true rfl) rfl ?_
  refine z_iconst ho dX13_nearest_10 ?_
  refine z_istore ho dX13_nearest_11 (Nat.le_of_ble_eq_true rfl) rfl ?_
  exact key (M vs.1).length 0 (-1) rfl (Or.inl ⟨rfl, fun j p hj => by omega⟩)
