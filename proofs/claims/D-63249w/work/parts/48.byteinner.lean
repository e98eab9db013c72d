set_option maxRecDepth 100000
/-! ===== inner places of texts ===== -/
def cls (k : Int) (m : Nat) : Bool := decide (k = 0 ∨ (k = 1 ∧ m ≤ 4) ∨ (k = 2 ∧ 4 < m ∧ m ≤ 16) ∨ (k = 3 ∧ 16 < m ∧ m ≤ 48) ∨ (k = 4 ∧ 48 < m))
def cnt (k : Int) (L : List (List Int × Nat)) : Int := ((L.filter (fun x => cls k x.2)).length : Nat)
theorem cnt_app (k : Int) (A B : List (List Int × Nat)) : cnt k (A ++ B) = cnt k A + cnt k B := by
  unfold cnt
  rw [List.filter_append, List.length_append]
  omega
/-- P is inner among the texts K, with m ways on -/
def Inn (K : List (List Int)) (P : List Int) (m : Nat) : Prop := ∃ D : List Int, D.Nodup ∧ (∀ b, b ∈ D ↔ ∃ s, P ++ b :: s ∈ K) ∧ m = D.length ∧ (2 ≤ m ∨ (P ∈ K ∧ 1 ≤ m))
def Inns (K : List (List Int)) (L : List (List Int × Nat)) : Prop := (L.map Prod.fst).Nodup ∧ ∀ P m, (P, m) ∈ L ↔ Inn K P m
theorem nd_len {D E : List Int} (h1 : D.Nodup) (h2 : E.Nodup) (h : ∀ b, b ∈ D ↔ b ∈ E) : D.length = E.length := by
  have p : D.Perm E := (List.perm_ext_iff_of_nodup h1 h2).mpr h
  exact p.length_eq
theorem Inn.uniq {K : List (List Int)} {P : List Int} {m m' : Nat} (h : Inn K P m) (h' : Inn K P m') : m = m' := by
  obtain ⟨D, a1, a2, rfl, -⟩ := h
  obtain ⟨E, b1, b2, rfl, -⟩ := h'
  exact nd_len a1 b1 (fun b => by rw [a2, b2])
theorem Inns.cnts {K K' : List (List Int)} {L L' : List (List Int × Nat)} (h : Inns K L) (h' : Inns K' L') (hk : ∀ x, x ∈ K ↔ x ∈ K') (k : Int) : cnt k L = cnt k L' := by
  have nd : ∀ {K L}, Inns K L → L.Nodup := fun h => List.Pairwise.of_map (f := Prod.fst) (fun a b hab z => hab (by rw [z])) h.1
  have e : ∀ P m, Inn K P m ↔ Inn K' P m := fun P m => by unfold Inn; simp only [hk]
  have p : L.Perm L' := (List.perm_ext_iff_of_nodup (nd h) (nd h')).mpr (fun x => by rw [h.2 x.1 x.2, h'.2 x.1 x.2, e])
  unfold cnt
  rw [(p.filter _).length_eq]
/-- two texts that have a text ahead of them -/
theorem pre_cmp {Q P a b : List Int} (h : Q ++ a = P ++ b) : (∃ s, P = Q ++ s) ∨ (∃ c s, Q = P ++ c :: s) := by
  rcases List.append_eq_append_iff.mp h with ⟨s, h1, h2⟩ | ⟨s, h1, h2⟩
  · exact Or.inl ⟨s, h1⟩
  · cases s with
    | nil => exact Or.inl ⟨[], by simp at h1; simp [h1]⟩
    | cons c s => exact Or.inr ⟨c, s, h1⟩
theorem fst_inj {α : Type} {ks : List (Int × α)} (hb : (ks.map Prod.fst).Nodup) {c d : Int × α} (hc : c ∈ ks) (hd : d ∈ ks) (h : c.1 = d.1) : c = d := by
  induction ks with
  | nil => simp at hc
  | cons k ks ih =>
    rw [List.map_cons, List.nodup_cons] at hb
    rcases List.mem_cons.mp hc with q | q
    · rcases List.mem_cons.mp hd with z | z
      · rw [q, z]
      · exact absurd (List.mem_map.mpr ⟨d, z, by rw [← h, q]⟩) hb.1
    · rcases List.mem_cons.mp hd with z | z
      · exact absurd (List.mem_map.mpr ⟨c, q, by rw [h, z]⟩) hb.1
      · exact ih hb.2 q z
abbrev Kin : Type := Int × List (List Int) × List (List Int × Nat)
theorem Inns.node {Q : List Int} {K0 : List (List Int)} {ks : List Kin} (h0 : K0 = [] ∨ K0 = [Q]) (hb : (ks.map Prod.fst).Nodup) (hk : ∀ c ∈ ks, c.2.1 ≠ [] ∧ (∀ x ∈ c.2.1, ∃ s, x = Q ++ c.1 :: s) ∧ Inns c.2.1 c.2.2) :
    Inns (K0 ++ ks.flatMap (fun c => c.2.1)) ((if 2 ≤ ks.length ∨ (K0 ≠ [] ∧ 1 ≤ ks.length) then [(Q, ks.length)] else []) ++ ks.flatMap (fun c => c.2.2)) := by
  -- the texts of a kid
  have own : ∀ c ∈ ks, ∀ s, Q ++ c.1 :: s ∈ K0 ++ ks.flatMap (fun c => c.2.1) ↔ Q ++ c.1 :: s ∈ c.2.1 := fun c hc s => by
    constructor
    · intro h
      rcases List.mem_append.mp h with q | q
      · rcases h0 with z | z
        · rw [z] at q; simp at q
        · rw [z] at q; simp at q
      · obtain ⟨d, hd, hx⟩ := List.mem_flatMap.mp q
        obtain ⟨s', hs'⟩ := (hk d hd).2.1 _ hx
        have e := List.append_cancel_left hs'
        simp at e
        have : d = c := fst_inj hb hd hc e.1.symm
        subst this; exact hx
    · intro h
      exact List.mem_append_right _ (List.mem_flatMap.mpr ⟨c, hc, h⟩)
  have kid : ∀ b s, Q ++ b :: s ∈ K0 ++ ks.flatMap (fun c => c.2.1) → ∃ c ∈ ks, c.1 = b := fun b s h => by
    rcases List.mem_append.mp h with q | q
    · rcases h0 with z | z
      · rw [z] at q; simp at q
      · rw [z] at q; simp at q
    · obtain ⟨d, hd, hx⟩ := List.mem_flatMap.mp q
      obtain ⟨s', hs'⟩ := (hk d hd).2.1 _ hx
      have e := List.append_cancel_left hs'
      simp at e
      exact ⟨d, hd, e.1.symm⟩
  have hQ : Q ∈ K0 ++ ks.flatMap (fun c => c.2.1) ↔ K0 ≠ [] := by
    constructor
    · intro h
      rcases List.mem_append.mp h with q | q
      · intro z; rw [z] at q; simp at q
      · obtain ⟨d, hd, hx⟩ := List.mem_flatMap.mp q
        obtain ⟨s', hs'⟩ := (hk d hd).2.1 _ hx
        have := congrArg List.length hs'
        simp at this
    · intro h
      rcases h0 with z | z
      · exact absurd z h
      · rw [z]; simp
  have all : ∀ x ∈ K0 ++ ks.flatMap (fun c => c.2.1), ∃ s, x = Q ++ s := fun x hx => by
    rcases List.mem_append.mp hx with q | q
    · rcases h0 with z | z
      · rw [z] at q; simp at q
      · rw [z] at q; exact ⟨[], by simpa using q⟩
    · obtain ⟨d, hd, hx⟩ := List.mem_flatMap.mp q
      obtain ⟨s', hs'⟩ := (hk d hd).2.1 _ hx
      exact ⟨_, hs'⟩
  have deg : ∀ b, b ∈ ks.map Prod.fst ↔ ∃ s, Q ++ b :: s ∈ K0 ++ ks.flatMap (fun c => c.2.1) := fun b => by
    constructor
    · intro h
      obtain ⟨c, hc, rfl⟩ := List.mem_map.mp h
      obtain ⟨x, hx⟩ := List.exists_mem_of_ne_nil _ (hk c hc).1
      obtain ⟨s, rfl⟩ := (hk c hc).2.1 x hx
      exact ⟨s, (own c hc s).mpr hx⟩
    · rintro ⟨s, h⟩
      obtain ⟨c, hc, e⟩ := kid b s h
      exact List.mem_map.mpr ⟨c, hc, e⟩
  have iQ : ∀ m, Inn (K0 ++ ks.flatMap (fun c => c.2.1)) Q m ↔ m = ks.length ∧ (2 ≤ ks.length ∨ (K0 ≠ [] ∧ 1 ≤ ks.length)) := fun m => by
    constructor
    · rintro ⟨D, d1, d2, rfl, d4⟩
      have e := nd_len d1 hb (fun b => by rw [d2, deg])
      rw [List.length_map] at e
      rw [e, hQ] at d4
      exact ⟨e, d4⟩
    · rintro ⟨rfl, h⟩
      exact ⟨_, hb, deg, by simp, by rw [hQ]; exact h⟩
  have below : ∀ c ∈ ks, ∀ s m, Inn (K0 ++ ks.flatMap (fun c => c.2.1)) (Q ++ c.1 :: s) m ↔ Inn c.2.1 (Q ++ c.1 :: s) m := fun c hc s m => by
    unfold Inn
    have e1 : ∀ b r, (Q ++ c.1 :: s) ++ b :: r = Q ++ c.1 :: (s ++ b :: r) := fun b r => by simp
    simp only [e1, own c hc]
  have inb : ∀ c ∈ ks, ∀ P m, (P, m) ∈ c.2.2 → ∃ s, P = Q ++ c.1 :: s := fun c hc P m h => by
    obtain ⟨D, d1, d2, rfl, d4⟩ := ((hk c hc).2.2.2 P m).mp h
    rcases d4 with d4 | ⟨d4, -⟩
    · -- two ways on
      cases D with
      | nil => simp at d4
      | cons b1 D =>
        cases D with
        | nil => simp at d4
        | cons b2 D =>
          have hne : b1 ≠ b2 := fun z => by rw [z] at d1; simp at d1
          obtain ⟨s1, m1⟩ := (d2 b1).mp (by simp)
          obtain ⟨s2, m2⟩ := (d2 b2).mp (by simp)
          obtain ⟨r1, e1⟩ := (hk c hc).2.1 _ m1
          obtain ⟨r2, e2⟩ := (hk c hc).2.1 _ m2
          have e1' : (Q ++ [c.1]) ++ r1 = P ++ b1 :: s1 := by rw [e1]; simp
          have e2' : (Q ++ [c.1]) ++ r2 = P ++ b2 :: s2 := by rw [e2]; simp
          rcases pre_cmp e1' with ⟨s, z⟩ | ⟨x, s, z⟩
          · exact ⟨s, by rw [z]; simp⟩
          · rw [z] at e1' e2'
            rw [List.append_assoc] at e1' e2'
            have f1 := List.append_cancel_left e1'
            have f2 := List.append_cancel_left e2'
            simp at f1 f2
            exact absurd (f1.1.symm.trans f2.1) hne
    · exact (hk c hc).2.1 _ d4
  refine ⟨?_, fun P m => ?_⟩
  · rw [List.map_append]
    refine List.nodup_append.mpr ⟨?_, ?_, fun x hx y hy => ?_⟩
    · split <;> simp
    · clear own kid hQ all deg iQ below
      induction ks with
      | nil => simp
      | cons c ks ih =>
        rw [List.flatMap_cons, List.map_append]
        rw [List.map_cons, List.nodup_cons] at hb
        refine List.nodup_append.mpr ⟨(hk c List.mem_cons_self).2.2.1, ih hb.2 (fun d hd => hk d (List.mem_cons_of_mem _ hd)) (fun d hd => inb d (List.mem_cons_of_mem _ hd)), fun x hx y hy z => ?_⟩
        obtain ⟨⟨P, m⟩, h1, rfl⟩ := List.mem_map.mp hx
        obtain ⟨⟨P', m'⟩, h2, h3⟩ := List.mem_map.mp hy
        obtain ⟨d, hd, h4⟩ := List.mem_flatMap.mp h2
        obtain ⟨s, e⟩ := inb c List.mem_cons_self P m h1
        obtain ⟨s', e'⟩ := inb d (List.mem_cons_of_mem _ hd) P' m' h4
        simp only at h3 z
        rw [← h3] at z
        rw [e, e'] at z
        have := List.append_cancel_left z
        simp at this
        exact hb.1 (List.mem_map.mpr ⟨d, hd, this.1.symm⟩)
    · intro z
      obtain ⟨⟨P, m⟩, h1, rfl⟩ := List.mem_map.mp hy
      obtain ⟨c, hc, h2⟩ := List.mem_flatMap.mp h1
      obtain ⟨s, e⟩ := inb c hc P m h2
      have : x = Q := by
        split at hx
        · simpa using hx
        · simp at hx
      rw [this] at z
      simp only at z
      rw [z] at e
      have := congrArg List.length e
      simp at this
  · rw [List.mem_append]
    constructor
    · rintro (h | h)
      · split at h
        · rename_i hc
          simp at h
          rw [h.1, h.2]
          exact (iQ _).mpr ⟨rfl, hc⟩
        · simp at h
      · obtain ⟨c, hc, h2⟩ := List.mem_flatMap.mp h
        obtain ⟨s, rfl⟩ := inb c hc P m h2
        exact (below c hc s m).mpr (((hk c hc).2.2.2 _ m).mp h2)
    · intro h
      have h' := h
      obtain ⟨D, d1, d2, rfl, d4⟩ := h
      -- P is not ahead of Q
      have hP : (∃ s, P = Q ++ s) := by
        have one : ∃ x ∈ K0 ++ ks.flatMap (fun c => c.2.1), ∃ s, x = P ++ s := by
          rcases d4 with d4 | ⟨d4, -⟩
          · cases D with
            | nil => simp at d4
            | cons b1 D =>
              obtain ⟨s1, m1⟩ := (d2 b1).mp (by simp)
              exact ⟨_, m1, _, rfl⟩
          · exact ⟨P, d4, [], by simp⟩
        obtain ⟨x, hx, s, hs⟩ := one
        obtain ⟨r, hr⟩ := all x hx
        rcases pre_cmp (hr.symm.trans hs) with z | ⟨c, r', z⟩
        · exact z
        · exfalso
          rcases d4 with d4 | ⟨d4, -⟩
          · cases D with
            | nil => simp at d4
            | cons b1 D =>
              cases D with
              | nil => simp at d4
              | cons b2 D =>
                have hne : b1 ≠ b2 := fun z => by rw [z] at d1; simp at d1
                obtain ⟨s1, m1⟩ := (d2 b1).mp (by simp)
                obtain ⟨s2, m2⟩ := (d2 b2).mp (by simp)
                obtain ⟨r1, e1⟩ := all _ m1
                obtain ⟨r2, e2⟩ := all _ m2
                rw [z, List.append_assoc] at e1 e2
                have f1 := List.append_cancel_left e1
                have f2 := List.append_cancel_left e2
                simp at f1 f2
                exact hne (f1.1.trans f2.1.symm)
          · obtain ⟨r2, e2⟩ := all _ d4
            rw [z] at e2
            have := congrArg List.length e2
            simp at this
      obtain ⟨s, rfl⟩ := hP
      cases s with
      | nil =>
        rw [List.append_nil] at h' ⊢
        obtain ⟨e, hc⟩ := (iQ _).mp h'
        left
        rw [if_pos hc, e]
        simp
      | cons b s =>
        have : ∃ c ∈ ks, c.1 = b := by
          rcases d4 with d4 | ⟨d4, -⟩
          · cases D with
            | nil => simp at d4
            | cons b1 D =>
              obtain ⟨s1, m1⟩ := (d2 b1).mp (by simp)
              rw [List.append_assoc] at m1
              exact kid b _ m1
          · exact kid b s d4
        obtain ⟨c, hc, rfl⟩ := this
        exact Or.inr (List.mem_flatMap.mpr ⟨c, hc, ((hk c hc).2.2.2 _ _).mpr ((below c hc s _).mp h')⟩)
/-! ===== ByteTree.tell, inner ===== -/
def nextb (cs : List Kid) : Int := match cs with | [] => -1 | c :: _ => c.1
theorem c_tell (l : Launch) : ∀ (n : Nat) (u : Mem) (t : Nat) (rt : Bool) (p : List Int) (es fp : List Nat) (C : Nat), TN u (TT u n) rt p t es fp → kd_ u C = 100 → ln_ u C = 5 → C ∉ fp → Mt_ l yX5_tell cX5_tell 3 none (n + 4) 0 0 [aR t, aR C] u (qV fun v => (∀ a, a ≠ C → Sm u v a) ∧ kd_ v C = 100 ∧ ln_ v C = 5 ∧ sz_ v = sz_ u ∧ ∃ L, Inns (es.map (oc u)) L ∧ ∀ k : Int, 0 ≤ k → k < 5 → iv_ v C k = iv_ u C k + cnt k L) := by
  have body : ∀ n : Nat, (∀ m : Nat, n = m + 1 → ∀ (u : Mem) (t : Nat) (rt : Bool) (p : List Int) (es fp : List Nat) (C : Nat), TN u (TT u m) rt p t es fp → kd_ u C = 100 → ln_ u C = 5 → C ∉ fp → Mt_ l yX5_tell cX5_tell 3 none (m + 4) 0 0 [aR t, aR C] u (qV fun v => (∀ a, a ≠ C → Sm u v a) ∧ kd_ v C = 100 ∧ ln_ v C = 5 ∧ sz_ v = sz_ u ∧ ∃ L, Inns (es.map (oc u)) L ∧ ∀ k : Int, 0 ≤ k → k < 5 → iv_ v C k = iv_ u C k + cnt k L)) →
      ∀ (u : Mem) (t : Nat) (rt : Bool) (p : List Int) (es fp : List Nat) (C : Nat), TN u (TT u n) rt p t es fp → kd_ u C = 100 → ln_ u C = 5 → C ∉ fp → Mt_ l yX5_tell cX5_tell 3 none (n + 4) 0 0 [aR t, aR C] u (qV fun v => (∀ a, a ≠ C → Sm u v a) ∧ kd_ v C = 100 ∧ ln_ v C = 5 ∧ sz_ v = sz_ u ∧ ∃ L, Inns (es.map (oc u)) L ∧ ∀ k : Int, 0 ≤ k → k < 5 → iv_ v C k = iv_ u C k + cnt k L) := by
    intro n hrec u t rt p es fp C hT kC lC hCf
    obtain ⟨es0, cs, hD, rfl, rfl⟩ := hT.td
    refine Mt_of (by decide) (Nat.le_of_ble_eq_true rfl) (fun X ho hX hN hI => ?_)
    subst hX
    show Z X 0 [some (aR t), some (aR C), none] [] u 0 0
    refine z_wf (fun hw => ?_)
    have kt := hD.1
    have hF := hD.2.2.1
    have hsz := hF.size
    rw [kx_len] at hsz
    have hsl := hF.srt.len
    rw [kx_len] at hsl
    have hCt : ∀ a ∈ fpT u t cs, a ≠ C := fun a ha z => hCf (z ▸ ha)
    have frm : ∀ v, (∀ a, a ≠ C → Sm u v a) → kd_ v C = 100 → (TD v n rt p t es0 cs ∧ fpT v t cs = fpT u t cs ∧ pth v t = pth u t) ∧ ∀ x, En u x → En v x ∧ tx v x = tx u x := fun v hs kCv => by
      have hen : ∀ x, En u x → En v x ∧ tx v x = tx u x := fun x hx => by
        have s1 := hs x (fun z => by rw [z] at hx; have := hx.2; omega)
        have := hx.1.same s1 (hs (x + 1) (fun z => by have := hx.1.2.2.1; rw [z] at this; omega))
        exact ⟨⟨this.1, by rw [s1.1]; exact hx.2⟩, this.2⟩
      exact ⟨hD.frame (fun a ha => hs a (hCt a ha)) (fun x hx => hen x (hD.ene x hx).1), hen⟩
    have hbn : (cs.map Prod.fst).Nodup := by
      have := hF.srt.1
      unfold kx at this
      rw [List.pairwise_map] at this
      exact List.pairwise_map.mpr (this.imp (fun {a b} h => by have : a.1 < b.1 := h; omega))
    have hL0 : ∀ ks : List Kin, ks.map Prod.fst = cs.map Prod.fst → ks.flatMap (fun c => c.2.1) = (ke cs).map (oc u) → (∀ c ∈ ks, c.2.1 ≠ [] ∧ (∀ x ∈ c.2.1, ∃ s, x = (p ++ pth u t) ++ c.1 :: s) ∧ Inns c.2.1 c.2.2) → Inns ((es0 ++ ke cs).map (oc u)) ((if 2 ≤ cs.length ∨ (es0 ≠ [] ∧ 1 ≤ cs.length) then [((p ++ pth u t), cs.length)] else []) ++ ks.flatMap (fun c => c.2.2)) := fun ks h1 h2 h3 => by
      have hl : ks.length = cs.length := by have := congrArg List.length h1; simpa using this
      have h0 : es0.map (oc u) = [] ∨ es0.map (oc u) = [p ++ pth u t] := by
        rcases hD.2.2.2.1 with ⟨-, z⟩ | ⟨-, z1, z2⟩
        · left; rw [z]; rfl
        · right; rw [z2]; simp [z1]
      have := Inns.node h0 (by rw [h1]; exact hbn) h3
      rw [h2, hl, ← List.map_append] at this
      have e : (es0.map (oc u) ≠ []) ↔ es0 ≠ [] := by simp
      simp only [e] at this
      exact this
    generalize hLL : (if 2 ≤ cs.length ∨ (es0 ≠ [] ∧ 1 ≤ cs.length) then [((p ++ pth u t), cs.length)] else []) = L0 at hL0
    have loop : ∀ (c2 c1 : List Kid) (ks : List Kin) (v : Mem), cs = c1 ++ c2 → ks.map Prod.fst = c1.map Prod.fst → ks.flatMap (fun c => c.2.1) = (ke c1).map (oc u) → (∀ c ∈ ks, c.2.1 ≠ [] ∧ (∀ x ∈ c.2.1, ∃ s, x = (p ++ pth u t) ++ c.1 :: s) ∧ Inns c.2.1 c.2.2) → (∀ a, a ≠ C → Sm u v a) → kd_ v C = 100 → ln_ v C = 5 → sz_ v = sz_ u → (∀ k : Int, 0 ≤ k → k < 5 → iv_ v C k = iv_ u C k + cnt k (L0 ++ ks.flatMap (fun c => c.2.2))) → Z X 77 [some (aR t), some (aR C), some (aI (nextb c2))] [] v 0 0 := by
      intro c2
      induction c2 with
      | nil =>
        intro c1 ks v hcs h1 h2 h3 h4 h5 h6 h7 h8
        rw [List.append_nil] at hcs
        subst hcs
        show Z X 77 [some (aR t), some (aR C), some (aI (-1))] [] v 0 0
        refine z_iload_n ho dX5_tell_77 rfl ?_
        refine z_iconst ho dX5_tell_78 ?_
        refine z_icmp_eq (tgt := 119) ho dX5_tell_79 (by decide) (by unfold rng; omega) (by unfold rng; omega) (fun c79 => ?_) (fun c79 => ?_)
        · 
          refine r_V ho dX5_tell_119 (Nat.le_of_ble_eq_true rfl) (Nat.le_of_ble_eq_true rfl) ?_
          exact ⟨h4, h5, h6, h7, _, hL0 ks h1 h2 h3, h8⟩
        · exact absurd rfl c79
      | cons c c2 ih =>
        intro c1 ks v hcs h1 h2 h3 h4 h5 h6 h7 h8
        have hcm : c ∈ cs := by rw [hcs]; simp
        have hcr := hF.srt.2 (c.1, c.2.1) (mem_kx.mpr ⟨c, hcm, rfl⟩)
        simp only at hcr
        obtain ⟨⟨hDv, hfv, hpv⟩, hen⟩ := frm v h4 h5
        have hFv := hDv.2.2.1
        have hlk := lk_of hF.srt (mem_kx.mpr ⟨c, hcm, rfl⟩)
        obtain ⟨m, hm1, hTm⟩ := (hDv.2.2.2.2.1 c hcm).node
        have hcC : C ∉ c.2.2.2 := fun z => hCf (by unfold fpT; simp [mem_kf.mpr ⟨c, hcm, z⟩])
        have kcv : kd_ v c.2.1 = 6 := hTm.1
        show Z X 77 [some (aR t), some (aR C), some (aI c.1)] [] v 0 0
        have hsp := List.pairwise_append.mp (show (kx c1 ++ ((c.1, c.2.1) :: kx c2)).Pairwise (fun a b => a.1 < b.1) by have := hF.srt.1; rw [hcs, kx_app] at this; exact this)
        have g1 : ∀ d ∈ c1, d.1 < c.1 := fun d hd => hsp.2.2 (d.1, d.2.1) (mem_kx.mpr ⟨d, hd, rfl⟩) (c.1, c.2.1) (by simp)
        have g2 : ∀ d ∈ c2, c.1 < d.1 := fun d hd => (List.pairwise_cons.mp hsp.2.1).1 (d.1, d.2.1) (mem_kx.mpr ⟨d, hd, rfl⟩)
        have nxt : ∀ w (r : Int), r = nextb c2 → (∀ a, a ≠ C → Sm u w a) → kd_ w C = 100 → ln_ w C = 5 → sz_ w = sz_ u → (∃ L, Inns (c.2.2.1.map (oc u)) L ∧ ∀ k : Int, 0 ≤ k → k < 5 → iv_ w C k = iv_ v C k + cnt k L) → Z X 77 [some (aR t), some (aR C), some (aI r)] [] w 0 0 := by
          intro w r hr w1 w2 w3 w4 ⟨L, w5, w6⟩
          rw [hr]
          refine ih (c1 ++ [c]) (ks ++ [(c.1, c.2.2.1.map (oc u), L)]) w (by rw [hcs]; simp) (by simp [h1]) ?_ (fun d hd => ?_) w1 w2 w3 w4 (fun k k0 k1 => ?_)
          · rw [List.flatMap_append, h2, ke_app, List.map_append]
            simp [ke]
          · rcases List.mem_append.mp hd with q | q
            · exact h3 d q
            · rw [List.mem_singleton.mp q]
              refine ⟨fun z => (TT.mem _ _ _ _ _ (hD.2.2.2.2.1 c hcm)).2.2.1 (List.map_eq_nil_iff.mp z), fun x hx => ?_, w5⟩
              obtain ⟨y, hy, rfl⟩ := List.mem_map.mp hx
              exact (hD.enk c hcm y hy).2
          · rw [w6 k k0 k1, h8 k k0 k1, List.flatMap_append]
            simp only [cnt_app, List.flatMap_cons, List.flatMap_nil, List.append_nil]
            omega
        refine z_iload_n ho dX5_tell_77 rfl ?_
        refine z_iconst ho dX5_tell_78 ?_
        refine z_icmp_eq (tgt := 119) ho dX5_tell_79 (by decide) (by unfold rng; omega) (by unfold rng; omega) (fun c79 => ?_) (fun c79 => ?_)
        · omega
        · 
          refine z_aload_n ho dX5_tell_82 rfl ?_
          refine gX5_47 ho dX5_tell_83 (by rw [hDv.1]) ?_
          refine z_iload_n ho dX5_tell_86 rfl ?_
          refine or_call (hFv.k2) (fun hq cc => kX5_51_8 ho hN (c_G8_get _ _ hFv (by omega) (by omega) hq) dX5_tell_87 hq (by omega) (Nat.le_of_ble_eq_true rfl) (Nat.le_of_ble_eq_true rfl) (Nat.le_of_ble_eq_true rfl) cc) (fun hq cc => kX5_51_16 ho hN (c_G16_get _ _ hFv (by omega) (by omega) hq) dX5_tell_87 hq (by omega) (Nat.le_of_ble_eq_true rfl) (Nat.le_of_ble_eq_true rfl) (Nat.le_of_ble_eq_true rfl) cc) (fun x87 u87 h87 => ?_)
          obtain ⟨rfl, rfl⟩ := h87
          rw [hlk]
          refine z_aload_n ho dX5_tell_90 rfl ?_
          refine kX5_125 ho hN (hrec m hm1 v c.2.1 false _ _ _ C hTm h5 h6 hcC) dX5_tell_91 (by omega) (Nat.le_of_ble_eq_true rfl) (Nat.le_of_ble_eq_true rfl) (Nat.le_of_ble_eq_true rfl) (fun u91 h91 => ?_)
          obtain ⟨s1, s2, s3, s4, L, s5, s6⟩ := h91
          have w1 : ∀ a, a ≠ C → Sm u u91 a := fun a ha => (h4 a ha).tr (s1 a ha)
          have w5 : ∃ L, Inns (c.2.2.1.map (oc u)) L ∧ ∀ k : Int, 0 ≤ k → k < 5 → iv_ u91 C k = iv_ v C k + cnt k L := by
            refine ⟨L, ?_, s6⟩
            have e : c.2.2.1.map (oc v) = c.2.2.1.map (oc u) := List.map_congr_left (fun x hx => by unfold oc; rw [(hen x ((TT.mem _ _ _ _ _ (hD.2.2.2.2.1 c hcm)).1 x hx).1).2])
            rw [← e]; exact s5
          obtain ⟨⟨hDw, hfw, hpw⟩, -⟩ := frm u91 w1 s2
          have hFw := hDw.2.2.1
          refine z_iload_n ho dX5_tell_94 rfl ?_
          refine z_sipush ho dX5_tell_95 rfl ?_
          refine z_icmp_ne (tgt := 105) ho dX5_tell_98 (by decide) (by unfold rng; omega) (by unfold rng; omega) (fun c98 => ?_) (fun c98 => ?_)
          · 
            refine z_aload_n ho dX5_tell_105 rfl ?_
            refine gX5_47 ho dX5_tell_106 hDw.1 ?_
            refine z_iload_n ho dX5_tell_109 rfl ?_
            refine z_iconst ho dX5_tell_110 ?_
            refine z_iadd ho dX5_tell_111 ?_
            refine or_call (hFw.k2) (fun hq cc => kX5_98_8 ho hN (c_G8_from _ _ hFw (by omega) (by omega) hq) dX5_tell_112 hq (by omega) (Nat.le_of_ble_eq_true rfl) (Nat.le_of_ble_eq_true rfl) (Nat.le_of_ble_eq_true rfl) cc) (fun hq cc => kX5_98_16 ho hN (c_G16_from _ _ hFw (by omega) (by omega) hq) dX5_tell_112 hq (by omega) (Nat.le_of_ble_eq_true rfl) (Nat.le_of_ble_eq_true rfl) (Nat.le_of_ble_eq_true rfl) cc) (fun x112 u112 h112 => ?_)
            obtain ⟨rfl, hfr⟩ := h112
            refine z_istore_n ho dX5_tell_115 (Nat.le_of_ble_eq_true rfl) rfl ?_
            refine z_goto (tgt := 77) ho dX5_tell_116 (by decide) ?_
            refine nxt _ _ ?_ w1 s2 s3 (by rw [s4]; exact h7) w5
            rcases kid_after (c1 := c1) (md := [c]) (c2 := c2) hF.srt (by rw [hcs]; simp) g1 g2 (fun d hd => by rw [List.mem_singleton.mp hd]) hfr with ⟨z1, z2⟩ | ⟨d, c2', z1, z2, -⟩
            · rw [z1, z2]; rfl
            · rw [z1, z2]; rfl
          · 
            refine z_iconst ho dX5_tell_101 ?_
            refine z_goto (tgt := 115) ho dX5_tell_102 (by decide) ?_
            refine z_istore_n ho dX5_tell_115 (Nat.le_of_ble_eq_true rfl) rfl ?_
            refine z_goto (tgt := 77) ho dX5_tell_116 (by decide) ?_
            refine nxt _ _ ?_ w1 s2 s3 (by rw [s4]; exact h7) w5
            cases c2 with
            | nil => rfl
            | cons d c2 =>
              have h1 := g2 d (by simp)
              have h2 := hF.srt.2 (d.1, d.2.1) (mem_kx.mpr ⟨d, by rw [hcs]; simp, rfl⟩)
              simp only at h2
              omega
    have strt : ∀ (v : Mem), (∀ a, a ≠ C → Sm u v a) → kd_ v C = 100 → ln_ v C = 5 → sz_ v = sz_ u → (∀ k : Int, 0 ≤ k → k < 5 → iv_ v C k = iv_ u C k + cnt k L0) → Z X 68 [some (aR t), some (aR C), none] [] v 0 0 := by
      intro v h4 h5 h6 h7 h8
      obtain ⟨⟨hDv, hfv, hpv⟩, hen⟩ := frm v h4 h5
      have hFv := hDv.2.2.1
      refine z_aload_n ho dX5_tell_68 rfl ?_
      refine gX5_47 ho dX5_tell_69 hDv.1 ?_
      refine z_iconst ho dX5_tell_72 ?_
      refine or_call (hFv.k2) (fun hq cc => kX5_98_8 ho hN (c_G8_from _ _ hFv (by omega) (by omega) hq) dX5_tell_73 hq (by omega) (Nat.le_of_ble_eq_true rfl) (Nat.le_of_ble_eq_true rfl) (Nat.le_of_ble_eq_true rfl) cc) (fun hq cc => kX5_98_16 ho hN (c_G16_from _ _ hFv (by omega) (by omega) hq) dX5_tell_73 hq (by omega) (Nat.le_of_ble_eq_true rfl) (Nat.le_of_ble_eq_true rfl) (Nat.le_of_ble_eq_true rfl) cc) (fun x73 u73 h73 => ?_)
      obtain ⟨rfl, hfr⟩ := h73
      refine z_istore_n ho dX5_tell_76 (Nat.le_of_ble_eq_true rfl) rfl ?_
      have hr : x73 = nextb cs := by
        rcases kid_first hF.srt hfr with ⟨z1, z2⟩ | ⟨d, c2', z1, z2, -⟩
        · rw [z1, z2]; rfl
        · rw [z2, z1]; rfl
      rw [hr]
      exact loop cs [] [] v rfl rfl rfl (fun c hc => by simp at hc) h4 h5 h6 h7 (fun k k0 k1 => by rw [h8 k k0 k1]; simp)
    refine z_aload_n ho dX5_tell_0 rfl ?_
    refine kX5_117 ho hN (c_isInner _ _ hD) dX5_tell_1 kt (by omega) (Nat.le_of_ble_eq_true rfl) (Nat.le_of_ble_eq_true rfl) (Nat.le_of_ble_eq_true rfl) (fun x1 u1 h1 => ?_)
    obtain ⟨rfl, hr⟩ := h1
    refine z_if_eq (tgt := 68) ho dX5_tell_4 (by decide) (by rw [hr]; unfold rng; split <;> omega) (fun c4 => ?_) (fun c4 => ?_)
    · have hL : L0 = [] := by
        rw [← hLL, if_neg (fun z => by rw [hr, if_pos z] at c4; omega)]
      exact strt u (fun a _ => Sm.rf u a) kC lC rfl (fun k _ _ => by rw [hL]; simp [cnt])
    · have hL : L0 = [((p ++ pth u t), cs.length)] := by
        rw [← hLL, if_pos (Classical.byContradiction (fun z => by rw [hr, if_neg z] at c4; omega))]
      have mid : ∀ k : Int, 1 ≤ k → k < 5 → (∀ j : Int, 1 ≤ j → j < 5 → cls j cs.length = decide (j = k)) → Z X 63 [some (aR t), some (aR C), none] [aI k, aR C] (wI_ u C 0 (iv_ u C 0 + 1)) 0 0 := by
        intro k k0 k1 hk
        refine z_dup2 ho dX5_tell_63 rfl rfl ?_
        refine z_iald ho dX5_tell_64 kC (by omega) (by rw [ln_wI]; omega) ?_
        refine z_iconst ho dX5_tell_65 ?_
        refine z_iadd ho dX5_tell_66 ?_
        refine z_iast ho dX5_tell_67 kC (by omega) (by rw [ln_wI]; omega) ?_
        refine strt _ (fun a ha => (Sm.wI ha).tr (Sm.wI ha)) kC lC rfl (fun j j0 j1 => ?_)
        rw [hL, iv_wI]
        have e1 : cnt j [((p ++ pth u t), cs.length)] = if cls j cs.length = true then 1 else 0 := by
          unfold cnt
          simp only [List.filter_cons, List.filter_nil]
          split <;> simp [*]
        rw [e1]
        by_cases hj : j = 0
        · have : cls j cs.length = true := by unfold cls; simp [hj]
          rw [if_neg (by omega), iv_wI, hj, if_pos ⟨rfl, rfl⟩, if_pos (by rw [← hj]; exact this)]
        · rw [hk j (by omega) (by omega)]
          by_cases hjk : j = k
          · rw [if_pos ⟨rfl, hjk⟩, iv_wI, if_neg (by omega), if_pos (by simp [hjk]), hjk]
          · rw [if_neg (fun z => hjk z.2), iv_wI, if_neg (by omega), if_neg (by simp [hjk]), Int.add_zero]
      have hsz1 : iv_ (wI_ u C 0 (iv_ u C 0 + 1)) (rv_ u t 3) 0 = cs.length := by
        rw [iv_wI, if_neg (fun z => hCt _ (by unfold fpT fpF; simp) z.1)]; exact hsz
      have hiF : isF_ (wI_ u C 0 (iv_ u C 0 + 1)) (rv_ u t 3) := hF.isF
      refine z_aload_n ho dX5_tell_7 rfl ?_
      refine z_iconst ho dX5_tell_8 ?_
      refine z_dup2 ho dX5_tell_9 rfl rfl ?_
      refine z_iald ho dX5_tell_10 kC (by omega) (by omega) ?_
      refine z_iconst ho dX5_tell_11 ?_
      refine z_iadd ho dX5_tell_12 ?_
      refine z_iast ho dX5_tell_13 kC (by omega) (by omega) ?_
      refine z_aload_n ho dX5_tell_14 rfl ?_
      refine z_aload_n ho dX5_tell_15 rfl ?_
      refine gX5_47 ho dX5_tell_16 kt ?_
      refine gX5_81 ho dX5_tell_19 hiF ?_
      rw [rv_wI, hsz1]
      refine z_iconst ho dX5_tell_22 ?_
      refine z_icmp_gt (tgt := 30) ho dX5_tell_23 (by decide) (by unfold rng; omega) (by unfold rng; omega) (fun c23 => ?_) (fun c23 => ?_)
      · 
        refine z_aload_n ho dX5_tell_30 rfl ?_
        refine gX5_47 ho dX5_tell_31 kt ?_
        refine gX5_81 ho dX5_tell_34 hiF ?_
        rw [rv_wI, hsz1]
        refine z_bipush ho dX5_tell_37 rfl ?_
        refine z_icmp_gt (tgt := 46) ho dX5_tell_39 (by decide) (by unfold rng; omega) (by unfold rng; omega) (fun c39 => ?_) (fun c39 => ?_)
        · 
          refine z_aload_n ho dX5_tell_46 rfl ?_
          refine gX5_47 ho dX5_tell_47 kt ?_
          refine gX5_81 ho dX5_tell_50 hiF ?_
          rw [rv_wI, hsz1]
          refine z_bipush ho dX5_tell_53 rfl ?_
          refine z_icmp_gt (tgt := 62) ho dX5_tell_55 (by decide) (by unfold rng; omega) (by unfold rng; omega) (fun c55 => ?_) (fun c55 => ?_)
          · 
            refine z_iconst ho dX5_tell_62 ?_
            exact mid 4 (by omega) (by omega) (fun j j0 j1 => by unfold cls; simp only [decide_eq_decide]; omega)
          · 
            refine z_iconst ho dX5_tell_58 ?_
            refine z_goto (tgt := 63) ho dX5_tell_59 (by decide) ?_
            exact mid 3 (by omega) (by omega) (fun j j0 j1 => by unfold cls; simp only [decide_eq_decide]; omega)
        · 
          refine z_iconst ho dX5_tell_42 ?_
          refine z_goto (tgt := 63) ho dX5_tell_43 (by decide) ?_
          exact mid 2 (by omega) (by omega) (fun j j0 j1 => by unfold cls; simp only [decide_eq_decide]; omega)
      · 
        refine z_iconst ho dX5_tell_26 ?_
        refine z_goto (tgt := 63) ho dX5_tell_27 (by decide) ?_
        exact mid 1 (by omega) (by omega) (fun j j0 j1 => by unfold cls; simp only [decide_eq_decide]; omega)
  intro n
  induction n with
  | zero => exact body 0 (fun m h => by omega)
  | succ n ih => exact body (n + 1) (fun m h => by cases h; exact ih)
theorem c_inner (l : Launch) (u : Mem) {G : Nat → Prop} {t : Nat} {S : List Nat} {k : Int} (hT : YT G u t S) (k0 : 0 ≤ k) (k1 : k < 5) : Mt_ l yX5_inner cX5_inner 3 (some .int) 21 1 5 [aR t, aI k] u (qI fun r v => (∃ L K, (∀ x, x ∈ K ↔ ∃ e ∈ S, oc u e = x) ∧ Inns K L ∧ r = cnt k L) ∧ sz_ v = sz_ u + 1 ∧ ∀ a, a < sz_ u → Sm u v a) := by
  obtain ⟨w3, w4, n, ES, FP, hY, hTN, hp0, h3, h4, hS, hG⟩ := hT
  have hTN := TR.fit hTN
  refine Mt_of (by decide) (Nat.le_of_ble_eq_true rfl) (fun X ho hX hN hI => ?_)
  subst hX
  show Z X 0 [some (aR t), some (aI k), none] [] u 0 0
  refine z_wf (fun hw => ?_)
  have y1 := hY.1
  have htl := hw.1 t (by omega)
  have hk5 := (TR.mem hTN).2.1
  have hEn := (TR.mem hTN).1
  have hFl : ∀ a ∈ FP, a < sz_ u := fun a ha => (hw.1 a (by have := hk5 a ha; unfold K5 at this; omega)).1
  have hS1 : ∀ a, a < sz_ u → Sm u (al_ u 100 5) a := fun a ha => Sm.al (by omega)
  have er : rv_ (al_ u 100 5) t 2 = rv_ u t 2 := by rw [rv_al, if_neg (by omega)]
  have hen : ∀ x, En u x → En (al_ u 100 5) x ∧ tx (al_ u 100 5) x = tx u x := fun x hx => by
    have hl := hx.1.lt hw
    have := hx.1.same (hS1 x hl.1) (hS1 (x + 1) hl.2.1)
    exact ⟨⟨this.1, by rw [(hS1 x hl.1).1]; exact hx.2⟩, this.2⟩
  have hT1 : TN (al_ u 100 5) (TT (al_ u 100 5) 16) true [] (rv_ u t 2) ES FP := TN.frame (R' := TT (al_ u 100 5) 16) hTN (fun a ha => hS1 a (hFl a ha)) (fun e he => hen e (hEn e he).1) (TT.frame 16)
  have kC : kd_ (al_ u 100 5) (sz_ u) = 100 := by rw [kd_al, if_pos rfl]
  have lC : ln_ (al_ u 100 5) (sz_ u) = 5 := by rw [ln_al, if_pos rfl]
  refine z_iconst ho dX5_inner_0 ?_
  refine na_I ho dX5_inner_1 (by omega) (by omega) (Nat.le_of_ble_eq_true rfl) (Nat.le_of_ble_eq_true rfl) ?_
  refine z_astore_n ho dX5_inner_3 (Nat.le_of_ble_eq_true rfl) rfl ?_
  refine z_aload_n ho dX5_inner_4 rfl ?_
  refine gX5_12 ho dX5_inner_5 (by rw [kd_al, if_neg (by omega)]; exact y1) ?_
  rw [er]
  refine z_aload_n ho dX5_inner_8 rfl ?_
  refine kX5_125 ho hN (c_tell _ 16 _ _ true [] _ _ (sz_ u) hT1 kC lC (fun z => by have := hFl _ z; omega)) dX5_inner_9 (Nat.le_of_ble_eq_true rfl) (Nat.le_of_ble_eq_true rfl) (Nat.le_of_ble_eq_true rfl) (Nat.le_of_ble_eq_true rfl) (fun u9 h9 => ?_)
  obtain ⟨s1, s2, s3, s4, L, s5, s6⟩ := h9
  refine z_aload_n ho dX5_inner_12 rfl ?_
  refine z_iload_n ho dX5_inner_13 rfl ?_
  refine z_iald ho dX5_inner_14 s2 k0 (by rw [s3]; exact k1) ?_
  refine r_I ho dX5_inner_15 (Nat.le_of_ble_eq_true rfl) (Nat.le_of_ble_eq_true rfl) ?_
  refine ⟨⟨L, ES.map (oc u), fun x => ?_, ?_, ?_⟩, by rw [s4, sz_al], fun a ha => (hS1 a ha).tr (s1 a (by omega))⟩
  · simp only [List.mem_map, ← hS]
  · have e : ES.map (oc (al_ u 100 5)) = ES.map (oc u) := List.map_congr_left (fun x hx => by unfold oc; rw [(hen x (hEn x hx).1).2])
    rw [← e]; exact s5
  · rw [s6 k k0 k1, iv_al, if_pos rfl, Int.zero_add]
