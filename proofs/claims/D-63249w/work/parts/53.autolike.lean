set_option maxRecDepth 100000
/-! ===== states that are alike ===== -/
def res (Ks : List (List Int)) (p : List Int) : List Int → Prop := fun w => p ++ w ∈ Ks
theorem desc_eq : ∀ {A B : List (Int × Int)}, A.Pairwise (fun a b => b.1 < a.1) → B.Pairwise (fun a b => b.1 < a.1) → (∀ x, x ∈ A ↔ x ∈ B) → A = B := by
  intro A
  induction A with
  | nil =>
    intro B _ _ h
    cases B with
    | nil => rfl
    | cons b B => have := (h b).mpr (by simp); simp at this
  | cons a A ih =>
    intro B hA hB h
    obtain ⟨a1, a2⟩ := List.pairwise_cons.mp hA
    cases B with
    | nil => have := (h a).mp (by simp); simp at this
    | cons b B =>
      obtain ⟨b1, b2⟩ := List.pairwise_cons.mp hB
      have e : a = b := by
        rcases List.mem_cons.mp ((h a).mp (by simp)) with q | q
        · exact q
        · rcases List.mem_cons.mp ((h b).mpr (by simp)) with z | z
          · exact z.symm
          · have h1 := b1 a q
            have h2 := a1 b z
            omega
      subst e
      congr 1
      refine ih a2 b2 (fun x => ⟨fun hx => ?_, fun hx => ?_⟩)
      · rcases List.mem_cons.mp ((h x).mp (by simp [hx])) with q | q
        · have := a1 x hx; rw [q] at this; omega
        · exact q
      · rcases List.mem_cons.mp ((h x).mpr (by simp [hx])) with q | q
        · have := b1 x hx; rw [q] at this; omega
        · exact q
/-- the texts of the states are what the keys begin with -/
def Nds (n : Nat) (pf : Nat → List Int) (Ks : List (List Int)) : Prop := ∀ p, (∃ s, s < n ∧ pf s = p) ↔ ∃ k ∈ Ks, p <+: k
/-- the kept states: different ones, and their steps go to kept ones -/
def KI (tg : Int → Int) (n : Nat) (pf : Nat → List Int) (St : Nat → List Nat) (Ks : List (List Int)) (KL : List Nat) : Prop := (∀ s ∈ KL, s < n ∧ ∀ t ∈ St s, ∃ r ∈ KL, tg (t : Int) = (r : Int) ∧ res Ks (pf r) = res Ks (pf (t + 1))) ∧ ∀ a ∈ KL, ∀ b ∈ KL, res Ks (pf a) = res Ks (pf b) → a = b
theorem TI.res_cons {fs nx lt : Int → Int} {n : Nat} {pf : Nat → List Int} {St : Nat → List Nat} {Ks : List (List Int)} (h : TI fs nx lt n pf St) (hN : Nds n pf Ks) {s : Nat} (hs : s < n) (c : Int) (w : List Int) : res Ks (pf s) (c :: w) ↔ ∃ t ∈ St s, lt (t : Int) = c ∧ res Ks (pf (t + 1)) w := by
  constructor
  · intro hr
    obtain ⟨s', h1, h2⟩ := (hN (pf s ++ [c])).mpr ⟨_, hr, ⟨w, by simp⟩⟩
    obtain ⟨t, t1, t2, rfl⟩ := h.node hs h1 h2
    refine ⟨t, t1, t2, ?_⟩
    show pf (t + 1) ++ w ∈ Ks
    rw [h2]
    have : pf s ++ (c :: w) ∈ Ks := hr
    simpa using this
  · rintro ⟨t, t1, t2, t3⟩
    have e := (h.2.2.2.1 s hs t t1).2
    show pf s ++ (c :: w) ∈ Ks
    have t4 : pf (t + 1) ++ w ∈ Ks := t3
    rw [e, t2] at t4
    simpa using t4
theorem Nds.some {n : Nat} {pf : Nat → List Int} {Ks : List (List Int)} (hN : Nds n pf Ks) {s : Nat} (hs : s < n) : ∃ w, res Ks (pf s) w := by
  obtain ⟨k, h1, w, h2⟩ := (hN (pf s)).mp ⟨s, hs, rfl⟩
  exact ⟨w, by show pf s ++ w ∈ Ks; rw [h2]; exact h1⟩
theorem like_iff {fs nx lt tg fn : Int → Int} {n : Nat} {pf : Nat → List Int} {St : Nat → List Nat} {Ks : List (List Int)} {KL : List Nat} (h : TI fs nx lt n pf St) (hN : Nds n pf Ks) (hfn : ∀ s : Nat, s < n → (fn (s : Int) = 1 ∧ pf s ∈ Ks) ∨ (fn (s : Int) = 0 ∧ pf s ∉ Ks)) (hK : KI tg n pf St Ks KL) {a s : Nat} (ha : a ∈ KL) (hs : s < n) (hd : ∀ t ∈ St s, ∃ r ∈ KL, tg (t : Int) = (r : Int) ∧ res Ks (pf r) = res Ks (pf (t + 1))) :
    (fn (a : Int) = fn (s : Int) ∧ (St a).map (fun (t : Nat) => (lt (t : Int), tg (t : Int))) = (St s).map (fun (t : Nat) => (lt (t : Int), tg (t : Int)))) ↔ res Ks (pf a) = res Ks (pf s) := by
  obtain ⟨han, had⟩ := hK.1 a ha
  have nil : ∀ x, x < n → (res Ks (pf x) [] ↔ fn (x : Int) = 1) := fun x hx => by
    show pf x ++ [] ∈ Ks ↔ _
    rw [List.append_nil]
    rcases hfn x hx with q | q
    · exact ⟨fun _ => q.1, fun _ => q.2⟩
    · exact ⟨fun z => absurd z q.2, fun z => by rw [q.1] at z; exact absurd z (by decide)⟩
  constructor
  · rintro ⟨h1, h2⟩
    have tr : ∀ {x y : Nat}, (∀ t ∈ St x, ∃ r ∈ KL, tg (t : Int) = (r : Int) ∧ res Ks (pf r) = res Ks (pf (t + 1))) → (∀ t ∈ St y, ∃ r ∈ KL, tg (t : Int) = (r : Int) ∧ res Ks (pf r) = res Ks (pf (t + 1))) → (St x).map (fun (t : Nat) => (lt (t : Int), tg (t : Int))) = (St y).map (fun (t : Nat) => (lt (t : Int), tg (t : Int))) → x < n → y < n → ∀ c w, res Ks (pf x) (c :: w) → res Ks (pf y) (c :: w) := by
      intro x y hx hy he hxn hyn c w hr
      obtain ⟨t, t1, t2, t3⟩ := (h.res_cons hN hxn c w).mp hr
      have hm : (lt (t : Int), tg (t : Int)) ∈ (St y).map (fun (t : Nat) => (lt (t : Int), tg (t : Int))) := by
        rw [← he]; exact List.mem_map.mpr ⟨t, t1, rfl⟩
      obtain ⟨t', q1, q2⟩ := List.mem_map.mp hm
      simp only [Prod.mk.injEq] at q2
      obtain ⟨r, r1, r2, r3⟩ := hx t t1
      obtain ⟨r', r1', r2', r3'⟩ := hy t' q1
      have : r = r' := by
        have := q2.2
        rw [r2, r2'] at this
        omega
      subst this
      refine (h.res_cons hN hyn c w).mpr ⟨t', q1, by rw [q2.1, t2], ?_⟩
      rw [← r3', r3]
      exact t3
    funext w
    apply propext
    cases w with
    | nil => rw [nil a han, nil s hs, h1]
    | cons c w => exact ⟨tr had hd h2 han hs c w, tr hd had h2.symm hs han c w⟩
  · intro he
    have h1 : fn (a : Int) = fn (s : Int) := by
      have := nil a han
      have h2 := nil s hs
      rw [he] at this
      rcases hfn a han with q | q
      · rw [q.1]; exact (h2.mp (this.mpr q.1)).symm
      · rcases hfn s hs with z | z
        · have := this.mp (h2.mpr z.1)
          rw [q.1] at this
          exact absurd this (by decide)
        · rw [q.1, z.1]
    refine ⟨h1, ?_⟩
    have srt : ∀ x, x < n → ((St x).map (fun (t : Nat) => (lt (t : Int), tg (t : Int)))).Pairwise (fun a b => b.1 < a.1) := fun x hx => List.pairwise_map.mpr (h.2.2.2.2.2.2 x hx)
    have sub : ∀ {x y : Nat}, x < n → y < n → (∀ t ∈ St x, ∃ r ∈ KL, tg (t : Int) = (r : Int) ∧ res Ks (pf r) = res Ks (pf (t + 1))) → (∀ t ∈ St y, ∃ r ∈ KL, tg (t : Int) = (r : Int) ∧ res Ks (pf r) = res Ks (pf (t + 1))) → res Ks (pf x) = res Ks (pf y) → ∀ z, z ∈ (St x).map (fun (t : Nat) => (lt (t : Int), tg (t : Int))) → z ∈ (St y).map (fun (t : Nat) => (lt (t : Int), tg (t : Int))) := by
      intro x y hx hy dx dy hxy z hz
      obtain ⟨t, t1, rfl⟩ := List.mem_map.mp hz
      have htn := (h.2.2.2.1 x hx t t1).1
      obtain ⟨w, hw⟩ := Nds.some hN htn
      have hr := (h.res_cons hN hx (lt (t : Int)) w).mpr ⟨t, t1, rfl, hw⟩
      rw [hxy] at hr
      obtain ⟨t', q1, q2, -⟩ := (h.res_cons hN hy _ w).mp hr
      obtain ⟨r, r1, r2, r3⟩ := dx t t1
      obtain ⟨r', r1', r2', r3'⟩ := dy t' q1
      have hder : res Ks (pf (t + 1)) = res Ks (pf (t' + 1)) := by
        have e1 := (h.2.2.2.1 x hx t t1).2
        have e2 := (h.2.2.2.1 y hy t' q1).2
        funext w
        show (pf (t + 1) ++ w ∈ Ks) = (pf (t' + 1) ++ w ∈ Ks)
        have := congrFun hxy (lt (t : Int) :: w)
        have this' : (pf x ++ (lt (t : Int) :: w) ∈ Ks) = (pf y ++ (lt (t : Int) :: w) ∈ Ks) := this
        rw [e1, e2, q2]
        simpa using this'
      have : r = r' := hK.2 r r1 r' r1' (by rw [r3, hder, r3'])
      refine List.mem_map.mpr ⟨t', q1, ?_⟩
      simp only [Prod.mk.injEq]
      exact ⟨q2, by rw [r2, r2', this]⟩
    exact desc_eq (srt a han) (srt s hs) (fun z => ⟨sub han hs had hd he z, sub hs han hd had he.symm z⟩)
/-! ===== Automaton.isLike, least ===== -/
theorem c_isLike (l : Launch) (u : Mem) {au a0 a1 a2 a3 a4 a8 : Nat} {a b : Int} {La Lb : List Nat} (hX : AX u au a0 a1 a2 a3 a4 a8) (ha0 : 0 ≤ a) (ha1 : a < 513) (hb0 : 0 ≤ b) (hb1 : b < 513) (hLa : Ch (iv_ u a4) (iv_ u a1 a) La) (hLb : Ch (iv_ u a4) (iv_ u a1 b) Lb) (hl : ∀ t ∈ La ++ Lb, t < 513 ∧ (0 ≤ iv_ u a2 (t : Int) ∧ iv_ u a2 (t : Int) < 65536) ∧ rng (iv_ u a3 (t : Int))) (fa : iv_ u a0 a = 0 ∨ iv_ u a0 a = 1) (fb : iv_ u a0 b = 0 ∨ iv_ u a0 b = 1) :
    Mt_ l yX9_isLike cX9_isLike 6 (some .boolean) 0 0 0 [aR au, aI a, aI b] u (qI fun r u' => u = u' ∧ qB r (iv_ u a0 a = iv_ u a0 b ∧ La.map (fun (t : Nat) => (iv_ u a2 (t : Int), iv_ u a3 (t : Int))) = Lb.map (fun (t : Nat) => (iv_ u a2 (t : Int), iv_ u a3 (t : Int))))) := by
  obtain ⟨⟨ka, r0, r1, r2, r3, r4, r8⟩, ⟨k0, l0⟩, ⟨k1, l1⟩, ⟨k2, l2⟩, ⟨k3, l3⟩, ⟨k4, l4⟩, ⟨k8, l8⟩, -⟩ := hX
  refine Mt_of (by decide) (Nat.le_of_ble_eq_true rfl) (fun X ho hX hN hI => ?_)
  subst hX
  show Z X 0 [some (aR au), some (aI a), some (aI b), none, none, none] [] u 0 0
  generalize hP : (iv_ u a0 a = iv_ u a0 b ∧ La.map (fun (t : Nat) => (iv_ u a2 (t : Int), iv_ u a3 (t : Int))) = Lb.map (fun (t : Nat) => (iv_ u a2 (t : Int), iv_ u a3 (t : Int)))) = P at *
  have no : ¬ P → ∀ x y k : Int, Z X 126 [some (aR au), some (aI a), some (aI b), some (aI x), some (aI y), some (aI k)] [] u 0 0 := fun hn x y k => by
    refine z_iconst ho dX9_isLike_126 ?_
    refine r_Z ho dX9_isLike_127 (Nat.le_of_ble_eq_true rfl) (Nat.le_of_ble_eq_true rfl) ?_ ?_
    · exact Or.inl rfl
    · exact ⟨rfl, Or.inr ⟨rfl, hn⟩⟩
  have off : ¬ P → ∀ x y : Int, Z X 111 [some (aR au), some (aI a), some (aI b), some (aI x), some (aI y), some (aI 0)] [] u 0 0 := fun hn x y => by
    refine z_iload ho dX9_isLike_111 rfl ?_
    refine z_if_eq (tgt := 126) ho dX9_isLike_113 (by decide) (by unfold rng; omega) (fun c113 => ?_) (fun c113 => ?_)
    · exact no hn _ _ _
    · exact absurd rfl c113
  have fin : ∀ (Ma Mb : List Nat) (x y : Int), Ch (iv_ u a4) x Ma → Ch (iv_ u a4) y Mb → (∀ t ∈ Ma ++ Mb, t < 513) → (Ma = [] ∨ Mb = []) → (P ↔ Ma.map (fun (t : Nat) => (iv_ u a2 (t : Int), iv_ u a3 (t : Int))) = Mb.map (fun (t : Nat) => (iv_ u a2 (t : Int), iv_ u a3 (t : Int)))) → Z X 111 [some (aR au), some (aI a), some (aI b), some (aI x), some (aI y), some (aI 1)] [] u 0 0 := by
    intro Ma Mb x y h1 h2 h3 h4 h5
    have hx : -1 ≤ x ∧ x < 513 ∧ (x = -1 ↔ Ma = []) := by
      cases Ma with
      | nil => have : x = -1 := h1; simp [this]
      | cons t M => have := h1.1; have := h3 t (by simp); exact ⟨by omega, by omega, by simp; omega⟩
    have hy : -1 ≤ y ∧ y < 513 ∧ (y = -1 ↔ Mb = []) := by
      cases Mb with
      | nil => have : y = -1 := h2; simp [this]
      | cons t M => have := h2.1; have := h3 t (by simp); exact ⟨by omega, by omega, by simp; omega⟩
    refine z_iload ho dX9_isLike_111 rfl ?_
    refine z_if_eq (tgt := 126) ho dX9_isLike_113 (by decide) (by unfold rng; omega) (fun c113 => ?_) (fun c113 => ?_)
    · exact absurd c113 (by decide)
    · 
      refine z_iload_n ho dX9_isLike_116 rfl ?_
      refine z_iload ho dX9_isLike_117 rfl ?_
      refine z_icmp_ne (tgt := 126) ho dX9_isLike_119 (by decide) (by unfold rng; omega) (by unfold rng; omega) (fun c119 => ?_) (fun c119 => ?_)
      · refine no (fun z => c119 ?_) _ _ _
        have e := h5.mp z
        rcases h4 with q | q
        · rw [q] at e
          have : Mb = [] := by cases Mb with
            | nil => rfl
            | cons t M => simp at e
          rw [hx.2.2.mpr q, hy.2.2.mpr this]
        · rw [q] at e
          have : Ma = [] := by cases Ma with
            | nil => rfl
            | cons t M => simp at e
          rw [hx.2.2.mpr this, hy.2.2.mpr q]
      · 
        refine z_iconst ho dX9_isLike_122 ?_
        refine z_goto (tgt := 127) ho dX9_isLike_123 (by decide) ?_
        refine r_Z ho dX9_isLike_127 (Nat.le_of_ble_eq_true rfl) (Nat.le_of_ble_eq_true rfl) ?_ ?_
        · exact Or.inr rfl
        · refine ⟨rfl, Or.inl ⟨rfl, h5.mpr ?_⟩⟩
          rcases h4 with q | q
          · rw [q, hy.2.2.mp (by rw [← c119]; exact hx.2.2.mpr q)]
          · rw [q, hx.2.2.mp (by rw [c119]; exact hy.2.2.mpr q)]
  have loop : ∀ (Ma Mb pa pb : List Nat) (x y : Int), La = pa ++ Ma → Lb = pb ++ Mb → Ch (iv_ u a4) x Ma → Ch (iv_ u a4) y Mb → (P ↔ Ma.map (fun (t : Nat) => (iv_ u a2 (t : Int), iv_ u a3 (t : Int))) = Mb.map (fun (t : Nat) => (iv_ u a2 (t : Int), iv_ u a3 (t : Int)))) → Z X 37 [some (aR au), some (aI a), some (aI b), some (aI x), some (aI y), some (aI 1)] [] u 0 0 := by
    intro Ma
    induction Ma with
    | nil =>
      intro Mb pa pb x y e1 e2 h1 h2 h5
      have hx : x = -1 := h1
      have h3 : ∀ t ∈ [] ++ Mb, t < 513 := fun t ht => (hl t (by rw [e1, e2]; simp at ht ⊢; simp [ht])).1
      subst hx
      refine z_iload ho dX9_isLike_37 rfl ?_
      refine z_if_eq (tgt := 111) ho dX9_isLike_39 (by decide) (by unfold rng; omega) (fun c39 => ?_) (fun c39 => ?_)
      · exact absurd c39 (by decide)
      · 
        refine z_iload_n ho dX9_isLike_42 rfl ?_
        refine z_iconst ho dX9_isLike_43 ?_
        refine z_icmp_eq (tgt := 111) ho dX9_isLike_44 (by decide) (by unfold rng; omega) (by unfold rng; omega) (fun c44 => ?_) (fun c44 => ?_)
        · exact fin [] Mb _ _ h1 h2 h3 (Or.inl rfl) h5
        · exact absurd rfl c44
    | cons t Ma ih =>
      intro Mb pa pb x y e1 e2 h1 h2 h5
      have ht := hl t (by rw [e1]; simp)
      have hx : x = (t : Int) := h1.1
      subst hx
      refine z_iload ho dX9_isLike_37 rfl ?_
      refine z_if_eq (tgt := 111) ho dX9_isLike_39 (by decide) (by unfold rng; omega) (fun c39 => ?_) (fun c39 => ?_)
      · exact absurd c39 (by decide)
      · 
        refine z_iload_n ho dX9_isLike_42 rfl ?_
        refine z_iconst ho dX9_isLike_43 ?_
        refine z_icmp_eq (tgt := 111) ho dX9_isLike_44 (by decide) (by unfold rng; omega) (by unfold rng; omega) (fun c44 => ?_) (fun c44 => ?_)
        · omega
        · cases Mb with
          | nil =>
            have hy : y = -1 := h2
            subst hy
            have h3 : ∀ s ∈ (t :: Ma) ++ [], s < 513 := fun s hs => (hl s (by rw [e1, e2]; simp at hs ⊢; rcases hs with q | q <;> simp [q])).1
            refine z_iload ho dX9_isLike_47 rfl ?_
            refine z_iconst ho dX9_isLike_49 ?_
            refine z_icmp_eq (tgt := 111) ho dX9_isLike_50 (by decide) (by unfold rng; omega) (by unfold rng; omega) (fun c50 => ?_) (fun c50 => ?_)
            · exact fin (t :: Ma) [] _ _ h1 h2 h3 (Or.inr rfl) h5
            · exact absurd rfl c50
          | cons t' Mb =>
            have ht' := hl t' (by rw [e2]; simp)
            have hy : y = (t' : Int) := h2.1
            subst hy
            have go : ∀ k : Int, (k = 1 ∧ (iv_ u a2 (t : Int) = iv_ u a2 (t' : Int) ∧ iv_ u a3 (t : Int) = iv_ u a3 (t' : Int))) ∨ (k = 0 ∧ ¬ (iv_ u a2 (t : Int) = iv_ u a2 (t' : Int) ∧ iv_ u a3 (t : Int) = iv_ u a3 (t' : Int))) → Z X 90 [some (aR au), some (aI a), some (aI b), some (aI (t : Int)), some (aI (t' : Int)), some (aI 1)] [aI k] u 0 0 := fun k hk => by
              rcases hk with ⟨hk, q⟩ | ⟨hk, q⟩
              · subst hk
                refine z_istore ho dX9_isLike_90 (Nat.le_of_ble_eq_true rfl) rfl ?_
                refine z_aload_n ho dX9_isLike_92 rfl ?_
                refine gX9_26 ho dX9_isLike_93 ka ?_
                rw [r4]
                refine z_iload_n ho dX9_isLike_96 rfl ?_
                refine z_iald ho dX9_isLike_97 k4 (by omega) (by omega) ?_
                refine z_istore_n ho dX9_isLike_98 (Nat.le_of_ble_eq_true rfl) rfl ?_
                refine z_aload_n ho dX9_isLike_99 rfl ?_
                refine gX9_26 ho dX9_isLike_100 ka ?_
                rw [r4]
                refine z_iload ho dX9_isLike_103 rfl ?_
                refine z_iald ho dX9_isLike_105 k4 (by omega) (by omega) ?_
                refine z_istore ho dX9_isLike_106 (Nat.le_of_ble_eq_true rfl) rfl ?_
                refine z_goto (tgt := 37) ho dX9_isLike_108 (by decide) ?_
                refine ih Mb (pa ++ [t]) (pb ++ [t']) _ _ (by rw [e1]; simp) (by rw [e2]; simp) h1.2 h2.2 ?_
                rw [h5]
                simp only [List.map_cons, List.cons.injEq, Prod.mk.injEq, q.1, q.2, and_self, true_and]
              · subst hk
                have hnP : ¬ P := fun z => by
                  have := h5.mp z
                  simp only [List.map_cons, List.cons.injEq, Prod.mk.injEq] at this
                  exact q this.1
                refine z_istore ho dX9_isLike_90 (Nat.le_of_ble_eq_true rfl) rfl ?_
                refine z_aload_n ho dX9_isLike_92 rfl ?_
                refine gX9_26 ho dX9_isLike_93 ka ?_
                rw [r4]
                refine z_iload_n ho dX9_isLike_96 rfl ?_
                refine z_iald ho dX9_isLike_97 k4 (by omega) (by omega) ?_
                refine z_istore_n ho dX9_isLike_98 (Nat.le_of_ble_eq_true rfl) rfl ?_
                refine z_aload_n ho dX9_isLike_99 rfl ?_
                refine gX9_26 ho dX9_isLike_100 ka ?_
                rw [r4]
                refine z_iload ho dX9_isLike_103 rfl ?_
                refine z_iald ho dX9_isLike_105 k4 (by omega) (by omega) ?_
                refine z_istore ho dX9_isLike_106 (Nat.le_of_ble_eq_true rfl) rfl ?_
                refine z_goto (tgt := 37) ho dX9_isLike_108 (by decide) ?_
                refine z_iload ho dX9_isLike_37 rfl ?_
                refine z_if_eq (tgt := 111) ho dX9_isLike_39 (by decide) (by unfold rng; omega) (fun c39 => ?_) (fun c39 => ?_)
                · exact off hnP _ _
                · exact absurd rfl c39
            refine z_iload ho dX9_isLike_47 rfl ?_
            refine z_iconst ho dX9_isLike_49 ?_
            refine z_icmp_eq (tgt := 111) ho dX9_isLike_50 (by decide) (by unfold rng; omega) (by unfold rng; omega) (fun c50 => ?_) (fun c50 => ?_)
            · omega
            · 
              refine z_aload_n ho dX9_isLike_53 rfl ?_
              refine gX9_19 ho dX9_isLike_54 ka ?_
              rw [r2]
              refine z_iload_n ho dX9_isLike_57 rfl ?_
              refine z_cald ho dX9_isLike_58 k2 (by omega) (by omega) ?_
              refine z_aload_n ho dX9_isLike_59 rfl ?_
              refine gX9_19 ho dX9_isLike_60 ka ?_
              rw [r2]
              refine z_iload ho dX9_isLike_63 rfl ?_
              refine z_cald ho dX9_isLike_65 k2 (by omega) (by omega) ?_
              refine z_icmp_ne (tgt := 89) ho dX9_isLike_66 (by decide) (by unfold rng; omega) (by unfold rng; omega) (fun c66 => ?_) (fun c66 => ?_)
              · 
                refine z_iconst ho dX9_isLike_89 ?_
                exact go 0 (Or.inr ⟨rfl, fun z => c66 z.1⟩)
              · 
                refine z_aload_n ho dX9_isLike_69 rfl ?_
                refine gX9_23 ho dX9_isLike_70 ka ?_
                rw [r3]
                refine z_iload_n ho dX9_isLike_73 rfl ?_
                refine z_iald ho dX9_isLike_74 k3 (by omega) (by omega) ?_
                refine z_aload_n ho dX9_isLike_75 rfl ?_
                refine gX9_23 ho dX9_isLike_76 ka ?_
                rw [r3]
                refine z_iload ho dX9_isLike_79 rfl ?_
                refine z_iald ho dX9_isLike_81 k3 (by omega) (by omega) ?_
                refine z_icmp_ne (tgt := 89) ho dX9_isLike_82 (by decide) ht.2.2 ht'.2.2 (fun c82 => ?_) (fun c82 => ?_)
                · 
                  refine z_iconst ho dX9_isLike_89 ?_
                  exact go 0 (Or.inr ⟨rfl, fun z => c82 z.2⟩)
                · 
                  refine z_iconst ho dX9_isLike_85 ?_
                  refine z_goto (tgt := 90) ho dX9_isLike_86 (by decide) ?_
                  exact go 1 (Or.inl ⟨rfl, c66, c82⟩)
  refine z_aload_n ho dX9_isLike_0 rfl ?_
  refine gX9_15 ho dX9_isLike_1 ka ?_
  rw [r1]
  refine z_iload_n ho dX9_isLike_4 rfl ?_
  refine z_iald ho dX9_isLike_5 k1 ha0 (by omega) ?_
  refine z_istore_n ho dX9_isLike_6 (Nat.le_of_ble_eq_true rfl) rfl ?_
  refine z_aload_n ho dX9_isLike_7 rfl ?_
  refine gX9_15 ho dX9_isLike_8 ka ?_
  rw [r1]
  refine z_iload_n ho dX9_isLike_11 rfl ?_
  refine z_iald ho dX9_isLike_12 k1 hb0 (by omega) ?_
  refine z_istore ho dX9_isLike_13 (Nat.le_of_ble_eq_true rfl) rfl ?_
  refine z_aload_n ho dX9_isLike_15 rfl ?_
  refine gX9_11 ho dX9_isLike_16 ka ?_
  rw [r0]
  refine z_iload_n ho dX9_isLike_19 rfl ?_
  refine z_zald ho dX9_isLike_20 k0 ha0 (by omega) ?_
  refine z_aload_n ho dX9_isLike_21 rfl ?_
  refine gX9_11 ho dX9_isLike_22 ka ?_
  rw [r0]
  refine z_iload_n ho dX9_isLike_25 rfl ?_
  refine z_zald ho dX9_isLike_26 k0 hb0 (by omega) ?_
  refine z_icmp_ne (tgt := 34) ho dX9_isLike_27 (by decide) (by unfold rng; omega) (by unfold rng; omega) (fun c27 => ?_) (fun c27 => ?_)
  · 
    refine z_iconst ho dX9_isLike_34 ?_
    refine z_istore ho dX9_isLike_35 (Nat.le_of_ble_eq_true rfl) rfl ?_
    have hnP : ¬ P := fun z => by rw [← hP] at z; exact c27 z.1
    refine z_iload ho dX9_isLike_37 rfl ?_
    refine z_if_eq (tgt := 111) ho dX9_isLike_39 (by decide) (by unfold rng; omega) (fun c39 => ?_) (fun c39 => ?_)
    · exact off hnP _ _
    · exact absurd rfl c39
  · 
    refine z_iconst ho dX9_isLike_30 ?_
    refine z_goto (tgt := 35) ho dX9_isLike_31 (by decide) ?_
    refine z_istore ho dX9_isLike_35 (Nat.le_of_ble_eq_true rfl) rfl ?_
    exact loop La Lb [] [] _ _ rfl rfl hLa hLb (by rw [← hP]; exact ⟨fun z => z.2, fun z => ⟨c27, z⟩⟩)
