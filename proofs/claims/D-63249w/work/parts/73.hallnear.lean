set_option maxRecDepth 100000
/-! ===== KeyHall: the nearest key of a view, by texts ===== -/
def okU (o : Option (List Int)) (st : Int) (s : List Int) : Prop := ∀ t, o = some t → t < s ∨ (st = 0 ∧ s = t)
def okD (o : Option (List Int)) (st : Int) (s : List Int) : Prop := ∀ t, o = some t → s < t ∨ (st = 0 ∧ s = t)
/-- the least, the greatest of those that are such -/
def NrU (A : List Int → Prop) (L : List KV) (r : Option KV) : Prop := (r = none ∧ ∀ q ∈ L, ¬ A q.1) ∨ (∃ p, r = some p ∧ p ∈ L ∧ A p.1 ∧ ∀ q ∈ L, A q.1 → q.1 = p.1 ∨ p.1 < q.1)
def NrD (A : List Int → Prop) (L : List KV) (r : Option KV) : Prop := (r = none ∧ ∀ q ∈ L, ¬ A q.1) ∨ (∃ p, r = some p ∧ p ∈ L ∧ A p.1 ∧ ∀ q ∈ L, A q.1 → q.1 = p.1 ∨ q.1 < p.1)
/-- w 0: up; 1: down -/
def Nr (w : Int) (R : List Int → Prop) (o : Option (List Int)) (st : Int) (L : List KV) (r : Option KV) : Prop := (w = 0 ∧ NrU (fun s => R s ∧ okU o st s) L r) ∨ (w = 1 ∧ NrD (fun s => R s ∧ okD o st s) L r)
theorem NrU.ex (A : List Int → Prop) : ∀ L : List KV, ∃ r, NrU A L r := by
  intro L
  induction L with
  | nil => exact ⟨none, Or.inl ⟨rfl, fun q hq => by simp at hq⟩⟩
  | cons a L ih =>
    obtain ⟨r, hr⟩ := ih
    by_cases ha : A a.1
    · rcases hr with ⟨-, h2⟩ | ⟨p, -, h2, h3, h4⟩
      · refine ⟨some a, Or.inr ⟨a, rfl, by simp, ha, fun q hq hA => ?_⟩⟩
        rcases List.mem_cons.mp hq with z | z
        · exact Or.inl (by rw [z])
        · exact absurd hA (h2 q z)
      · by_cases hlt : a.1 < p.1
        · refine ⟨some a, Or.inr ⟨a, rfl, by simp, ha, fun q hq hA => ?_⟩⟩
          rcases List.mem_cons.mp hq with z | z
          · exact Or.inl (by rw [z])
          · rcases h4 q z hA with y | y
            · exact Or.inr (by rw [y]; exact hlt)
            · exact Or.inr (List.lt_trans hlt y)
        · refine ⟨some p, Or.inr ⟨p, rfl, by simp [h2], h3, fun q hq hA => ?_⟩⟩
          rcases List.mem_cons.mp hq with z | z
          · rw [z]
            rcases li_tot a.1 p.1 with y | y | y
            · exact absurd y hlt
            · exact Or.inl y
            · exact Or.inr y
          · exact h4 q z hA
    · refine ⟨r, ?_⟩
      rcases hr with ⟨h1, h2⟩ | ⟨p, h1, h2, h3, h4⟩
      · refine Or.inl ⟨h1, fun q hq => ?_⟩
        rcases List.mem_cons.mp hq with z | z
        · rw [z]; exact ha
        · exact h2 q z
      · refine Or.inr ⟨p, h1, by simp [h2], h3, fun q hq hA => ?_⟩
        rcases List.mem_cons.mp hq with z | z
        · exact absurd (z ▸ hA) ha
        · exact h4 q z hA
theorem NrD.ex (A : List Int → Prop) : ∀ L : List KV, ∃ r, NrD A L r := by
  intro L
  induction L with
  | nil => exact ⟨none, Or.inl ⟨rfl, fun q hq => by simp at hq⟩⟩
  | cons a L ih =>
    obtain ⟨r, hr⟩ := ih
    by_cases ha : A a.1
    · rcases hr with ⟨-, h2⟩ | ⟨p, -, h2, h3, h4⟩
      · refine ⟨some a, Or.inr ⟨a, rfl, by simp, ha, fun q hq hA => ?_⟩⟩
        rcases List.mem_cons.mp hq with z | z
        · exact Or.inl (by rw [z])
        · exact absurd hA (h2 q z)
      · by_cases hlt : p.1 < a.1
        · refine ⟨some a, Or.inr ⟨a, rfl, by simp, ha, fun q hq hA => ?_⟩⟩
          rcases List.mem_cons.mp hq with z | z
          · exact Or.inl (by rw [z])
          · rcases h4 q z hA with y | y
            · exact Or.inr (by rw [y]; exact hlt)
            · exact Or.inr (List.lt_trans y hlt)
        · refine ⟨some p, Or.inr ⟨p, rfl, by simp [h2], h3, fun q hq hA => ?_⟩⟩
          rcases List.mem_cons.mp hq with z | z
          · rw [z]
            rcases li_tot a.1 p.1 with y | y | y
            · exact Or.inr y
            · exact Or.inl y
            · exact absurd y hlt
          · exact h4 q z hA
    · refine ⟨r, ?_⟩
      rcases hr with ⟨h1, h2⟩ | ⟨p, h1, h2, h3, h4⟩
      · refine Or.inl ⟨h1, fun q hq => ?_⟩
        rcases List.mem_cons.mp hq with z | z
        · rw [z]; exact ha
        · exact h2 q z
      · refine Or.inr ⟨p, h1, by simp [h2], h3, fun q hq hA => ?_⟩
        rcases List.mem_cons.mp hq with z | z
        · exact absurd (z ▸ hA) ha
        · exact h4 q z hA
theorem Nr.ex {w : Int} (hw : w = 0 ∨ w = 1) (R : List Int → Prop) (o : Option (List Int)) (st : Int) (L : List KV) : ∃ r, Nr w R o st L r := by
  rcases hw with z | z
  · obtain ⟨r, h⟩ := NrU.ex (fun s => R s ∧ okU o st s) L
    exact ⟨r, Or.inl ⟨z, h⟩⟩
  · obtain ⟨r, h⟩ := NrD.ex (fun s => R s ∧ okD o st s) L
    exact ⟨r, Or.inr ⟨z, h⟩⟩
theorem kyo_okA {u : Mem} {k e : Nat} {o : Option (List Int)} {st : Int} (hw : Wf u) (hk : KyO u k o) : okA u k st e ↔ okU o st (tx u e) := by
  unfold okA okU
  rcases hk with ⟨z, y⟩ | ⟨z, y⟩
  · rw [z, y]; simp
  · have := (z.lt hw).2.2
    rw [y]
    simp [this]
theorem kyo_okB {u : Mem} {k e : Nat} {o : Option (List Int)} {st : Int} (hw : Wf u) (hk : KyO u k o) : okB u k st e ↔ okD o st (tx u e) := by
  unfold okB okD
  rcases hk with ⟨z, y⟩ | ⟨z, y⟩
  · rw [z, y]; simp
  · have := (z.lt hw).2.2
    rw [y]
    simp [this]
/-- what a tree's answer is as a pair -/
def isP (u : Mem) (S : List Nat) (r : Nat) (q : Option KV) : Prop := (q = none ∧ r = 0) ∨ (∃ p, q = some p ∧ r ∈ S ∧ tx u r = p.1 ∧ iv_ u r 2 = p.2)
theorem nr_up {G : Nat → Prop} {u : Mem} {t k r : Nat} {S : List Nat} {L : List KV} {lo hi o : Option (List Int)} {R : List Int → Prop} {st : Int} {q : Option KV} (hw : Wf u) (hT : TP G u t S) (hl : S.length ≤ 64) (hL : L = S.map (fun e => (tx u e, iv_ u e 2))) (hR : ∀ s, Tx s → (inR lo hi s ↔ R s)) (hk : KyO u k o) (hq : qUp u S lo hi k st r) (hN : NrU (fun s => R s ∧ okU o st s) L q) : isP u S r q := by
  have hen := fun e he => (hT.en e he).1.Tx
  have hm : ∀ p ∈ L, ∃ e ∈ S, (tx u e, iv_ u e 2) = p := fun p hp => by rw [hL] at hp; exact List.mem_map.mp hp
  rcases hN with ⟨h1, h2⟩ | ⟨p, h1, h2, ⟨h3, h3'⟩, h4⟩
  · refine Or.inl ⟨h1, ?_⟩
    rcases hq with ⟨z, -⟩ | ⟨z1, z2, z3, -⟩
    · exact z
    · exact absurd ⟨(hR _ (hen r z1)).mp z2, (kyo_okA hw hk).mp z3⟩ (h2 (tx u r, iv_ u r 2) (by rw [hL]; exact List.mem_map_of_mem z1))
  · refine Or.inr ⟨p, h1, ?_⟩
    obtain ⟨e, he, hep⟩ := hm p h2
    have e1 : tx u e = p.1 := by rw [← hep]
    rw [← e1] at h3 h3'
    rcases hq with ⟨-, z⟩ | ⟨z1, z2, z3, z4⟩
    · exact absurd ((kyo_okA hw hk).mpr h3') (z e he ((hR _ (hen e he)).mpr h3))
    · rcases z4 e he ((hR _ (hen e he)).mpr h3) ((kyo_okA hw hk).mpr h3') with y | y
      · rw [← y]; exact ⟨he, e1, by rw [← hep]⟩
      · exfalso
        rcases h4 (tx u r, iv_ u r 2) (by rw [hL]; exact List.mem_map_of_mem z1) ⟨(hR _ (hen r z1)).mp z2, (kyo_okA hw hk).mp z3⟩ with w | w
        · simp only at w
          rw [w, e1] at y
          exact List.lt_irrefl _ y
        · simp only at w
          rw [e1] at y
          exact List.lt_irrefl _ (List.lt_trans w y)
theorem nr_dn {G : Nat → Prop} {u : Mem} {t k r : Nat} {S : List Nat} {L : List KV} {lo hi o : Option (List Int)} {R : List Int → Prop} {st : Int} {q : Option KV} (hw : Wf u) (hT : TP G u t S) (hl : S.length ≤ 64) (hL : L = S.map (fun e => (tx u e, iv_ u e 2))) (hR : ∀ s, Tx s → (inR lo hi s ↔ R s)) (hk : KyO u k o) (hq : qDn u S lo hi k st r) (hN : NrD (fun s => R s ∧ okD o st s) L q) : isP u S r q := by
  have hen := fun e he => (hT.en e he).1.Tx
  have hm : ∀ p ∈ L, ∃ e ∈ S, (tx u e, iv_ u e 2) = p := fun p hp => by rw [hL] at hp; exact List.mem_map.mp hp
  rcases hN with ⟨h1, h2⟩ | ⟨p, h1, h2, ⟨h3, h3'⟩, h4⟩
  · refine Or.inl ⟨h1, ?_⟩
    rcases hq with ⟨z, -⟩ | ⟨z1, z2, z3, -⟩
    · exact z
    · exact absurd ⟨(hR _ (hen r z1)).mp z2, (kyo_okB hw hk).mp z3⟩ (h2 (tx u r, iv_ u r 2) (by rw [hL]; exact List.mem_map_of_mem z1))
  · refine Or.inr ⟨p, h1, ?_⟩
    obtain ⟨e, he, hep⟩ := hm p h2
    have e1 : tx u e = p.1 := by rw [← hep]
    rw [← e1] at h3 h3'
    rcases hq with ⟨-, z⟩ | ⟨z1, z2, z3, z4⟩
    · exact absurd ((kyo_okB hw hk).mpr h3') (z e he ((hR _ (hen e he)).mpr h3))
    · rcases z4 e he ((hR _ (hen e he)).mpr h3) ((kyo_okB hw hk).mpr h3') with y | y
      · rw [← y]; exact ⟨he, e1, by rw [← hep]⟩
      · exfalso
        rcases h4 (tx u r, iv_ u r 2) (by rw [hL]; exact List.mem_map_of_mem z1) ⟨(hR _ (hen r z1)).mp z2, (kyo_okB hw hk).mp z3⟩ with w | w
        · simp only at w
          rw [w, e1] at y
          exact List.lt_irrefl _ y
        · simp only at w
          rw [e1] at y
          exact List.lt_irrefl _ (List.lt_trans w y)
theorem c_afterP (l : Launch) (u : Mem) {x a k : Nat} {S : Nat → List Nat} {M : Nat → List KV} {ch : Nat → Int} {vs : VS} {o : Option (List Int)} {st : Int} {q : Option KV} (hw : Wf u) (hT : HT u x S M ch) (hv : HV1 u x S ch a vs) (hl : (S vs.1).length ≤ 39) (hk : KyO u k o) (hst : st = 0 ∨ st = 1) (hN : Nr vs.2.2.1 vs.2.1 o st (M vs.1) q) : Mt_ l yX11_after cX11_after 3 (some (.object "KeyHall$Entry")) 1102 0 0 [aR a, aR k, aI st] u (qR fun r v => u = v ∧ isP u (S vs.1) r q) := by
  obtain ⟨v1, v2, ⟨lo, hi, hVw, hR⟩, v4, v5, v6, -⟩ := hv
  obtain ⟨y1, y2, y3, y4, y5, y6⟩ := hT.2.1 vs.1 v2
  refine (c_after l u hVw y1 y2 (by omega) (by rcases hk with z | z; (· exact Or.inl z.1); exact Or.inr z.1) hst (by rw [v6.1]; exact v6.2)).weak (Nat.le_refl _) (Nat.le_refl _) (Nat.le_refl _) (qR_mono (fun r v ⟨e, h0, h1⟩ => ⟨e, ?_⟩))
  rw [v6.1] at h0 h1
  rcases hN with ⟨z, hN⟩ | ⟨z, hN⟩
  · exact nr_up hw y1 (by omega) y5 hR hk (h0 z) hN
  · exact nr_dn hw y1 (by omega) y5 hR hk (h1 z) hN
theorem c_beforeP (l : Launch) (u : Mem) {x a k : Nat} {S : Nat → List Nat} {M : Nat → List KV} {ch : Nat → Int} {vs : VS} {o : Option (List Int)} {st : Int} {q : Option KV} (hw : Wf u) (hT : HT u x S M ch) (hv : HV1 u x S ch a vs) (hl : (S vs.1).length ≤ 39) (hk : KyO u k o) (hst : st = 0 ∨ st = 1) (hN : Nr (1 - vs.2.2.1) vs.2.1 o st (M vs.1) q) : Mt_ l yX11_before cX11_before 3 (some (.object "KeyHall$Entry")) 1102 0 0 [aR a, aR k, aI st] u (qR fun r v => u = v ∧ isP u (S vs.1) r q) := by
  obtain ⟨v1, v2, ⟨lo, hi, hVw, hR⟩, v4, v5, v6, -⟩ := hv
  obtain ⟨y1, y2, y3, y4, y5, y6⟩ := hT.2.1 vs.1 v2
  refine (c_before l u hVw y1 y2 (by omega) (by rcases hk with z | z; (· exact Or.inl z.1); exact Or.inr z.1) hst (by rw [v6.1]; exact v6.2)).weak (Nat.le_refl _) (Nat.le_refl _) (Nat.le_refl _) (qR_mono (fun r v ⟨e, h0, h1⟩ => ⟨e, ?_⟩))
  rw [v6.1] at h0 h1
  rcases hN with ⟨z, hN⟩ | ⟨z, hN⟩
  · exact nr_up hw y1 (by omega) y5 hR hk (h1 (by omega)) hN
  · exact nr_dn hw y1 (by omega) y5 hR hk (h0 (by omega)) hN
/-- the view behind use -/
theorem HS.useV {u v : Mem} {x j : Nat} {tp fd : List Int} {M : Nat → List KV} {ch : Nat → Int} {VL : List VS} {Ks : List (List Int)} {T : List Int} {Os : List (List Int)} {vs : VS} (h : HS u x tp fd M ch VL Ks T Os) (hw : Wf u) (hj : VL[j]? = some vs) (h4 : sz_ v = sz_ u) (h5 : ∀ a, a < sz_ u → kd_ v a = kd_ u a ∧ ln_ v a = ln_ u a) (h6 : ∀ a, a ≠ x + 1 → a ≠ x + 28 → a ≠ x + 29 → Sm u v a) : MR x u v ∧ ∃ S, HT v x S M ch ∧ HV v x S ch VL ∧ HV1 v x S ch (rv_ u (x + 3) (j : Int)) vs ∧ (S vs.1).length ≤ 39 := by
  obtain ⟨S, hT, hV, hv, hSl⟩ := h.view hj
  obtain ⟨hT1, hV1, hK1⟩ := h.keepS hT hV hw (by omega) h5 (fun a ha hn => h6 a (fun z => hn (Or.inl z)) (fun z => hn (by unfold kC; simp [z])) (fun z => hn (by unfold kC; simp [z])))
  have s3 := h6 (x + 3) (by omega) (by omega) (by omega)
  have hv' := hV1.1 j vs hj
  rw [s3.2.2.2] at hv'
  exact ⟨⟨by omega, fun a q1 q2 => h6 a (by omega) (by omega) (by omega)⟩, S, hT1, hV1, hv', hSl⟩
