set_option maxRecDepth 100000
/-! ===== the plain law of a minimal automaton that grows, two ===== -/
/-- prefix q is s and one letter more -/
def Fo (PL : List (Nat × List Int)) (s : List Int) (q : Nat) : Prop := ∃ (Q : Nat × List Int) (c : Int), PL[q]? = some Q ∧ Q.2 = s ++ [c]
noncomputable def Bk (PL : List (Nat × List Int)) (s : List Int) (k : Nat) : List Nat := (List.range k).filter (fun q => @decide (Fo PL s q) (Classical.propDecidable _))
theorem Bk.mem {PL : List (Nat × List Int)} {s : List Int} {k q : Nat} : q ∈ Bk PL s k ↔ q < k ∧ Fo PL s q := by
  unfold Bk
  rw [List.mem_filter, List.mem_range]
  exact ⟨fun z => ⟨z.1, @of_decide_eq_true _ (Classical.propDecidable _) z.2⟩, fun z => ⟨z.1, @decide_eq_true _ (Classical.propDecidable _) z.2⟩⟩
theorem Bk.nd (PL : List (Nat × List Int)) (s : List Int) (k : Nat) : (Bk PL s k).Nodup := List.nodup_range.filter _
theorem Bk.y {PL : List (Nat × List Int)} {s : List Int} {k : Nat} (h : Fo PL s k) : Bk PL s (k + 1) = Bk PL s k ++ [k] := by
  unfold Bk
  rw [List.range_succ, List.filter_append, List.filter_cons_of_pos (p := fun q => @decide (Fo PL s q) (Classical.propDecidable _)) (@decide_eq_true _ (Classical.propDecidable _) h)]
  rfl
theorem Bk.n {PL : List (Nat × List Int)} {s : List Int} {k : Nat} (h : ¬ Fo PL s k) : Bk PL s (k + 1) = Bk PL s k := by
  unfold Bk
  rw [List.range_succ, List.filter_append, List.filter_cons_of_neg (p := fun q => @decide (Fo PL s q) (Classical.propDecidable _)) (fun z => h (@of_decide_eq_true _ (Classical.propDecidable _) z))]
  simp
theorem Bk.len (PL : List (Nat × List Int)) (s : List Int) (k : Nat) : (Bk PL s k).length ≤ k := by
  have := List.length_filter_le (fun q => @decide (Fo PL s q) (Classical.propDecidable _)) (List.range k)
  rw [List.length_range] at this
  exact this
/-- all prefixes of the keys, each once -/
def HPL (Ks : List (List Int)) (PL : List (Nat × List Int)) : Prop := (PL.map Prod.snd).Nodup ∧ ∀ s, s ∈ PL.map Prod.snd ↔ Pre Ks s
theorem HPL.inj {Ks : List (List Int)} {PL : List (Nat × List Int)} (h : HPL Ks PL) {a b : Nat} {A B : Nat × List Int} (ha : PL[a]? = some A) (hb : PL[b]? = some B) (e : A.2 = B.2) : a = b := by
  have la := (List.getElem?_eq_some_iff.mp ha).1
  refine (List.getElem?_inj (l := PL.map Prod.snd) (by rw [List.length_map]; exact la) h.1).mp ?_
  rw [List.getElem?_map, List.getElem?_map, ha, hb]
  simp [e]
theorem HPL.pre {Ks : List (List Int)} {PL : List (Nat × List Int)} (h : HPL Ks PL) {a : Nat} {A : Nat × List Int} (ha : PL[a]? = some A) : Pre Ks A.2 := (h.2 A.2).mp (List.mem_map_of_mem (List.mem_of_getElem? ha))
theorem HPL.on {Ks : List (List Int)} {PL : List (Nat × List Int)} (h : HPL Ks PL) {s : List Int} {c : Int} : (∃ w, res Ks s (c :: w)) ↔ ∃ (q : Nat) (Q : Nat × List Int), PL[q]? = some Q ∧ Q.2 = s ++ [c] := by
  have e : (∃ w, res Ks s (c :: w)) ↔ Pre Ks (s ++ [c]) := by
    constructor
    · rintro ⟨w, hw⟩
      exact ⟨_, hw, ⟨w, by simp⟩⟩
    · rintro ⟨x, hx, w, rfl⟩
      exact ⟨w, by unfold res; simpa using hx⟩
  rw [e, ← h.2]
  constructor
  · intro z
    obtain ⟨Q, q1, q2⟩ := List.mem_map.mp z
    obtain ⟨q, hq, e⟩ := List.mem_iff_getElem.mp q1
    exact ⟨q, Q, by rw [List.getElem?_eq_getElem hq, e], q2⟩
  · rintro ⟨q, Q, q1, q2⟩
    rw [← q2]
    exact List.mem_map_of_mem (List.mem_of_getElem? q1)
theorem res_c (Ks : List (List Int)) (s : List Int) (c : Int) : (fun w => res Ks s (c :: w)) = res Ks (s ++ [c]) := by
  funext w
  unfold res
  simp
theorem HPL.degD {Ks : List (List Int)} {PL : List (Nat × List Int)} (h : HPL Ks PL) {s : List Int} {cc : Nat → Int} (hcc : ∀ (q : Nat) (Q : Nat × List Int) (c : Int), PL[q]? = some Q → Q.2 = s ++ [c] → cc q = c) : ((Bk PL s PL.length).map cc).Nodup ∧ ∀ c, c ∈ (Bk PL s PL.length).map cc ↔ ∃ w, res Ks s (c :: w) := by
  constructor
  · refine List.pairwise_map.mpr ((List.Pairwise.and_mem.mp (Bk.nd PL s PL.length)).imp (fun {a b} hab e => ?_))
    obtain ⟨ha, hb, hne⟩ := hab
    obtain ⟨-, A, c, a1, a2⟩ := Bk.mem.mp ha
    obtain ⟨-, B, c', b1, b2⟩ := Bk.mem.mp hb
    rw [hcc a A c a1 a2, hcc b B c' b1 b2] at e
    exact hne (h.inj a1 b1 (by rw [a2, b2, e]))
  · intro c
    rw [h.on, List.mem_map]
    constructor
    · rintro ⟨q, hq, rfl⟩
      obtain ⟨-, Q, c, q1, q2⟩ := Bk.mem.mp hq
      exact ⟨q, Q, q1, by rw [hcc q Q c q1 q2]; exact q2⟩
    · rintro ⟨q, Q, q1, q2⟩
      exact ⟨q, Bk.mem.mpr ⟨(List.getElem?_eq_some_iff.mp q1).1, Q, c, q1, q2⟩, hcc q Q c q1 q2⟩
def H4 (RL : List (List Int → Prop)) (SL : List (Nat × Int × Nat)) : Prop := ∀ (s : Nat) (c : Int) (t : Nat), (s, c, t) ∈ SL ↔ ∃ R, RL[s]? = some R ∧ (∃ w, R (c :: w)) ∧ RL[t]? = some (fun w => R (c :: w))
def HCl (RL : List (List Int → Prop)) : Prop := ∀ R ∈ RL, ∀ c, (∃ w, R (c :: w)) → (fun w => R (c :: w)) ∈ RL
theorem H4.det {RL : List (List Int → Prop)} {SL : List (Nat × Int × Nat)} (h : H4 RL SL) (hn : RL.Nodup) (s : Nat) : ∀ c t t', (s, c, t) ∈ SL → (s, c, t') ∈ SL → t = t' := by
  intro c t t' h1 h2
  obtain ⟨R, a1, -, a3⟩ := (h s c t).mp h1
  obtain ⟨R', b1, -, b3⟩ := (h s c t').mp h2
  rw [a1] at b1
  cases b1
  exact (List.getElem?_inj (List.getElem?_eq_some_iff.mp a3).1 hn).mp (a3.trans b3.symm)
/-- the search's test -/
theorem test_ {Ks : List (List Int)} {PL : List (Nat × List Int)} {RL : List (List Int → Prop)} {SL : List (Nat × Int × Nat)} {P : List Int} {so : Nat → Int} {s : Nat} {R : List Int → Prop} {cc : Nat → Int} (hL : HPL Ks PL) (hn : RL.Nodup) (hSn : SL.Nodup) (h4 : H4 RL SL) (hcl : HCl RL) (hs : RL[s]? = some R) (hcc : ∀ (q : Nat) (Q : Nat × List Int) (c : Int), PL[q]? = some Q → Q.2 = P ++ [c] → cc q = c) (hso : ∀ (q : Nat) (Q : Nat × List Int) (c : Int), PL[q]? = some Q → Q.2 = P ++ [c] → ∃ t : Nat, so q = (t : Int) ∧ RL[t]? = some (res Ks Q.2)) : R = res Ks P ↔ (R [] ↔ P ∈ Ks) ∧ (SL.filter (fun q => q.1 == s)).length = (Bk PL P PL.length).length ∧ ∀ (q : Nat) (Q : Nat × List Int) (c : Int), PL[q]? = some Q → Q.2 = P ++ [c] → ∃ t : Nat, so q = (t : Int) ∧ (s, c, t) ∈ SL := by
  obtain ⟨D, d1, d2, d3⟩ := sum_stepsN hSn hn hcl h4 s R hs
  obtain ⟨e1, e2⟩ := hL.degD hcc
  constructor
  · rintro rfl
    refine ⟨by unfold res; simp, ?_, fun q Q c hq he => ?_⟩
    · rw [d3, nd_len d1 e1 (fun b => by rw [d2, e2]), List.length_map]
    · obtain ⟨t, t1, t2⟩ := hso q Q c hq he
      exact ⟨t, t1, (h4 s c t).mpr ⟨_, hs, hL.on.mpr ⟨q, Q, hq, he⟩, by rw [t2, he, res_c]⟩⟩
  · rintro ⟨f1, f2, f3⟩
    refine same_res (by rw [f1]; unfold res; simp) d2 e1 e2 (by rw [← d3, f2, List.length_map]) (fun c hc => ?_)
    obtain ⟨q, Q, hq, he⟩ := hL.on.mp ((e2 c).mp hc)
    obtain ⟨t, t1, t2⟩ := f3 q Q c hq he
    obtain ⟨t', t1', t2'⟩ := hso q Q c hq he
    have ett : t = t' := by omega
    obtain ⟨R', r1, r2, r3⟩ := (h4 s c t).mp t2
    rw [hs] at r1
    cases r1
    refine ⟨(d2 c).mpr r2, ?_⟩
    rw [ett, t2'] at r3
    rw [res_c, ← he]
    exact (Option.some.inj r3).symm
/-- a new state -/
theorem grow_ {Ks : List (List Int)} {PL : List (Nat × List Int)} {RL : List (List Int → Prop)} {SL : List (Nat × Int × Nat)} {P : List Int} {so : Nat → Nat} {cc : Nat → Int} (hL : HPL Ks PL) (hn : RL.Nodup) (hSn : SL.Nodup) (h4 : H4 RL SL) (hcl : HCl RL) (hnew : res Ks P ∉ RL) (hcc : ∀ (q : Nat) (Q : Nat × List Int) (c : Int), PL[q]? = some Q → Q.2 = P ++ [c] → cc q = c) (hso : ∀ (q : Nat) (Q : Nat × List Int) (c : Int), PL[q]? = some Q → Q.2 = P ++ [c] → RL[so q]? = some (res Ks Q.2)) : (RL ++ [res Ks P]).Nodup ∧ (SL ++ (Bk PL P PL.length).map (fun q => (RL.length, cc q, so q))).Nodup ∧ H4 (RL ++ [res Ks P]) (SL ++ (Bk PL P PL.length).map (fun q => (RL.length, cc q, so q))) ∧ HCl (RL ++ [res Ks P]) := by
  have n1 : (RL ++ [res Ks P]).Nodup := List.nodup_append.mpr ⟨hn, by simp, fun a ha b hb e => by
    simp at hb
    exact hnew (by rw [← hb, ← e]; exact ha)⟩
  obtain ⟨e1, e2⟩ := hL.degD hcc
  have old : ∀ (s : Nat) (R : List Int → Prop), RL[s]? = some R → (RL ++ [res Ks P])[s]? = some R := fun s R h => by
    rw [List.getElem?_append_left (List.getElem?_eq_some_iff.mp h).1]; exact h
  have lst : (RL ++ [res Ks P])[RL.length]? = some (res Ks P) := List.getElem?_concat_length
  refine ⟨n1, ?_, ?_, ?_⟩
  · refine List.nodup_append.mpr ⟨hSn, ?_, fun a ha b hb e => ?_⟩
    · refine List.pairwise_map.mpr ((List.pairwise_map.mp e1).imp (fun {a b} h e => h ?_))
      exact congrArg (fun z : Nat × Int × Nat => z.2.1) e
    · obtain ⟨q, -, rfl⟩ := List.mem_map.mp hb
      rw [e] at ha
      obtain ⟨R, r1, -⟩ := (h4 _ _ _).mp ha
      have := (List.getElem?_eq_some_iff.mp r1).1
      omega
  · intro s c t
    rw [List.mem_append]
    constructor
    · rintro (z | z)
      · obtain ⟨R, r1, r2, r3⟩ := (h4 s c t).mp z
        exact ⟨R, old s R r1, r2, old t _ r3⟩
      · obtain ⟨q, hq, e⟩ := List.mem_map.mp z
        obtain ⟨-, Q, c', q1, q2⟩ := Bk.mem.mp hq
        have hc' := hcc q Q c' q1 q2
        cases e
        rw [hc']
        refine ⟨res Ks P, lst, hL.on.mpr ⟨q, Q, q1, q2⟩, old _ _ ?_⟩
        rw [hso q Q c' q1 q2, q2, res_c]
    · rintro ⟨R, r1, r2, r3⟩
      by_cases hs : s < RL.length
      · rw [List.getElem?_append_left hs] at r1
        have hm := hcl R (List.mem_of_getElem? r1) c r2
        obtain ⟨t', ht', e'⟩ := List.mem_iff_getElem.mp hm
        have ht2 : RL[t']? = some (fun w => R (c :: w)) := by rw [List.getElem?_eq_getElem ht', e']
        have := old t' _ ht2
        have : t = t' := (List.getElem?_inj (List.getElem?_eq_some_iff.mp r3).1 n1).mp (r3.trans this.symm)
        rw [this]
        exact Or.inl ((h4 s c t').mpr ⟨R, r1, r2, ht2⟩)
      · have hsl := (List.getElem?_eq_some_iff.mp r1).1
        rw [List.length_append] at hsl
        simp at hsl
        have hse : s = RL.length := by omega
        rw [hse, lst] at r1
        cases r1
        obtain ⟨q, Q, q1, q2⟩ := hL.on.mp r2
        have h1 := old _ _ (hso q Q c q1 q2)
        rw [q2, ← res_c] at h1
        have : t = so q := (List.getElem?_inj (List.getElem?_eq_some_iff.mp r3).1 n1).mp (r3.trans h1.symm)
        refine Or.inr (List.mem_map.mpr ⟨q, Bk.mem.mpr ⟨(List.getElem?_eq_some_iff.mp q1).1, Q, c, q1, q2⟩, ?_⟩)
        rw [hse, this, hcc q Q c q1 q2]
  · intro R hR c hc
    rcases List.mem_append.mp hR with z | z
    · exact List.mem_append_left _ (hcl R z c hc)
    · simp at z
      rw [z] at hc ⊢
      obtain ⟨q, Q, q1, q2⟩ := hL.on.mp hc
      have := hso q Q c q1 q2
      rw [q2, ← res_c] at this
      exact List.mem_append_left _ (List.mem_of_getElem? this)
/-- the automaton as it grows: Dn = prefixes that have a state, Dp = prefixes that may have made one -/
def FI (w : Mem) (m : Nat) (Ks : List (List Int)) (PL : List (Nat × List Int)) (Dn Dp : Nat → Prop) (RL : List (List Int → Prop)) (SL : List (Nat × Int × Nat)) (C Ps : List Nat) : Prop :=
  (RL.Nodup ∧ SL.Nodup ∧ H4 RL SL ∧ HCl RL) ∧ (iv_ w m 26 = (RL.length : Int) ∧ StA w m SL) ∧ (∀ (j : Nat) R, RL[j]? = some R → qB (iv_ w (m + 22) (j : Int)) (R [])) ∧ (∀ R ∈ RL, ∃ (p : Nat) (P : Nat × List Int), PL[p]? = some P ∧ R = res Ks P.2) ∧ (∀ (p : Nat) P, Dn p → PL[p]? = some P → ∃ t : Nat, iv_ w (m + 21) (p : Int) = (t : Int) ∧ RL[t]? = some (res Ks P.2)) ∧ (C.Nodup ∧ C.length = SL.length ∧ ∀ q ∈ C, ∃ (Q : Nat × List Int) (p : Nat) (P : Nat × List Int) (c : Int), PL[q]? = some Q ∧ Dp p ∧ PL[p]? = some P ∧ Q.2 = P.2 ++ [c]) ∧ (Ps.Nodup ∧ Ps.length = RL.length ∧ ∀ p ∈ Ps, Dp p ∧ p < PL.length) ∧ ∀ (p : Nat) P, Dn p → PL[p]? = some P → P.2 = [] → ∃ t : Nat, iv_ w m 28 = (t : Int) ∧ RL[t]? = some (res Ks [])
theorem FI.bd {w : Mem} {m : Nat} {Ks : List (List Int)} {PL : List (Nat × List Int)} {Dn Dp : Nat → Prop} {RL : List (List Int → Prop)} {SL : List (Nat × Int × Nat)} {C Ps : List Nat} (h : FI w m Ks PL Dn Dp RL SL C Ps) : RL.length ≤ PL.length := by
  obtain ⟨-, -, -, -, -, -, ⟨a1, a2, a3⟩, -⟩ := h
  rw [← a2]
  have := nd_sub Ps (List.range PL.length) a1 (fun x hx => List.mem_range.mpr (a3 x hx).2)
  rw [List.length_range] at this
  exact this
theorem FI.bd2 {w : Mem} {m p : Nat} {Ks : List (List Int)} {PL : List (Nat × List Int)} {Dn Dp : Nat → Prop} {RL : List (List Int → Prop)} {SL : List (Nat × Int × Nat)} {C Ps : List Nat} (h : FI w m Ks PL Dn Dp RL SL C Ps) (hp : ¬ Dp p) (hpl : p < PL.length) : RL.length < PL.length := by
  obtain ⟨-, -, -, -, -, -, ⟨a1, a2, a3⟩, -⟩ := h
  rw [← a2]
  have := nd_sub (p :: Ps) (List.range PL.length) (List.nodup_cons.mpr ⟨fun z => hp (a3 p z).1, a1⟩) (fun x hx => List.mem_range.mpr (by
    rcases List.mem_cons.mp hx with z | z
    · rw [z]; exact hpl
    · exact (a3 x z).2))
  rw [List.length_range, List.length_cons] at this
  omega
theorem FI.bd3 {w : Mem} {m p : Nat} {Ks : List (List Int)} {PL : List (Nat × List Int)} {P : Nat × List Int} {Dn Dp : Nat → Prop} {RL : List (List Int → Prop)} {SL : List (Nat × Int × Nat)} {C Ps : List Nat} (h : FI w m Ks PL Dn Dp RL SL C Ps) (hL : HPL Ks PL) (hp : ¬ Dp p) (hP : PL[p]? = some P) (k : Nat) : (C ++ Bk PL P.2 k).Nodup ∧ ∀ q ∈ C ++ Bk PL P.2 k, q < PL.length := by
  obtain ⟨-, -, -, -, -, ⟨c1, c2, c3⟩, -⟩ := h
  refine ⟨List.nodup_append.mpr ⟨c1, Bk.nd _ _ _, fun a ha b hb e => ?_⟩, fun q hq => ?_⟩
  · obtain ⟨Q, p', P', c, a1, a2, a3, a4⟩ := c3 a ha
    obtain ⟨-, Q', c', b1, b2⟩ := Bk.mem.mp hb
    rw [e, b1] at a1
    cases a1
    rw [a4] at b2
    have := (List.append_inj' b2 rfl).1
    exact hp (by rw [hL.inj hP a3 this.symm]; exact a2)
  · rcases List.mem_append.mp hq with z | z
    · obtain ⟨Q, p', P', c, a1, -⟩ := c3 q z
      exact (List.getElem?_eq_some_iff.mp a1).1
    · obtain ⟨-, Q', c', b1, b2⟩ := Bk.mem.mp z
      exact (List.getElem?_eq_some_iff.mp b1).1
theorem FI.bd4 {w : Mem} {m p : Nat} {Ks : List (List Int)} {PL : List (Nat × List Int)} {P : Nat × List Int} {Dn Dp : Nat → Prop} {RL : List (List Int → Prop)} {SL : List (Nat × Int × Nat)} {C Ps : List Nat} (h : FI w m Ks PL Dn Dp RL SL C Ps) (hL : HPL Ks PL) (hp : ¬ Dp p) (hP : PL[p]? = some P) (k : Nat) : SL.length + (Bk PL P.2 k).length ≤ PL.length := by
  obtain ⟨a1, a2⟩ := h.bd3 hL hp hP k
  have := nd_sub _ (List.range PL.length) a1 (fun x hx => List.mem_range.mpr (a2 x hx))
  rw [List.length_range, List.length_append, h.2.2.2.2.2.1.2.1] at this
  exact this
