set_option maxRecDepth 100000
/-! ===== KeyHall.beginning ===== -/
theorem HV1.same3 {u v : Mem} {x a : Nat} {S : Nat → List Nat} {ch : Nat → Int} {vs : VS} (h : HV1 u x S ch a vs) (hky : ∀ k, (k = rv_ u a 1 ∨ k = rv_ u a 2 ∨ k = rv_ u a 6) → Ky u k → Ky v k ∧ tx v k = tx u k) (hkd : ∀ k, kd_ v k = kd_ u k) (sa : Sm u v a) : HV1 v x S ch a vs := by
  obtain ⟨h1, h2, ⟨lo, hi, ⟨q1, q2, q3, q4⟩, hr⟩, h4, h5, h6, h7, h8, h9, h10, h11, h12⟩ := h
  have ko : ∀ {k : Nat} {o : Option (List Int)}, (k = rv_ u a 1 ∨ k = rv_ u a 2 ∨ k = rv_ u a 6) → KyO u k o → KyO v k o := fun {k o} hk hko => by
    rcases hko with z | ⟨z, e⟩
    · exact Or.inl z
    · have := hky k hk z
      exact Or.inr ⟨this.1, by rw [this.2]; exact e⟩
  refine ⟨h1, h2, ⟨lo, hi, ⟨by rw [hkd]; exact q1, by rw [sa.2.2.2]; exact q2, by rw [sa.2.2.2]; exact ko (Or.inl rfl) q3, by rw [sa.2.2.2]; exact ko (Or.inr (Or.inl rfl)) q4⟩, hr⟩, by rw [sa.2.2.2, hkd]; exact h4, by rw [sa.2.2.2, hkd]; exact h5, by rw [sa.2.2.1]; exact h6, by rw [sa.2.2.1]; exact h7, by rw [sa.2.2.1]; exact h8, ?_, by rw [sa.2.2.1]; exact h10, by rw [sa.2.2.2]; exact h11, h12⟩
  rw [sa.2.2.2]
  rcases h9 with z | ⟨z1, z2, z3⟩
  · exact Or.inl z
  · have := hky _ (Or.inr (Or.inr rfl)) z1.1
    exact Or.inr ⟨⟨this.1, by rw [hkd]; exact z1.2⟩, z2, by rw [this.2]; exact z3⟩
/-- a key that is no one's changes -/
theorem HS.lose {u : Mem} {x e : Nat} {i w : Int} {tp fd : List Int} {M : Nat → List KV} {ch : Nat → Int} {VL : List VS} {Ks : List (List Int)} {T : List Int} {Os : List (List Int)} {S : Nat → List Nat} (h : HS u x tp fd M ch VL Ks T Os) (hw : Wf u) (hT : HT u x S M ch) (hV : HV u x S ch VL) (he : kd_ u e = 2) (hE : x + 64 ≤ e) (hn : ∀ (j : Nat) vs, VL[j]? = some vs → rv_ u (rv_ u (x + 3) (j : Int)) 1 ≠ e ∧ rv_ u (rv_ u (x + 3) (j : Int)) 2 ≠ e) : HS (wI_ u e i w) x tp fd M ch VL Ks T Os ∧ MR x u (wI_ u e i w) ∧ HT (wI_ u e i w) x S M ch ∧ HV (wI_ u e i w) x S ch VL := by
  obtain ⟨⟨g1, g2, g3⟩, hFd, t1, f1, ⟨h0, d1⟩, -, hA, hX⟩ := h
  have sm : ∀ a, a ≠ e → Sm u (wI_ u e i w) a := fun a ha => Sm.wI ha
  have hky : ∀ k, Ky u k → k ≠ e → Ky (wI_ u e i w) k ∧ tx (wI_ u e i w) k = tx u k := fun k hk z => hk.same (sm k z) (sm (k + 1) (fun y => by have := hk.2.2.1; rw [y, he] at this; omega))
  have h3 := tA_3 x
  have hkk := fun k (hk : k < 3) => tA_kd hT hk
  have hT' : HT (wI_ u e i w) x S M ch := by
    refine ⟨hT.1, fun k hk => ?_, hT.2.2⟩
    obtain ⟨y1, y2, y3, y4, y5, y6⟩ := hT.2.1 k hk
    have hka := hkk k hk
    have h3k := h3 k
    have sk := sm (tA x k) (by omega)
    have hee : ∀ y ∈ S k, y ≠ e := fun y hy z => by have := (y1.en y hy).2; rw [z, he] at this; omega
    refine ⟨y1.frame hw rfl (fun _ => rfl) (fun a ha hsc => sm a (fun z => by rw [z, he] at hsc; unfold Sc K5 at hsc; omega)) (fun y hy hyn => ⟨⟨(hky y hyn.1 (hee y hy)).1, hyn.2⟩, (hky y hyn.1 (hee y hy)).2⟩), by rw [sk.2.2.1]; exact y2, by rw [sk.2.2.1]; exact y3, y4, ?_, y6⟩
    rw [y5]
    exact List.map_congr_left (fun y hy => by rw [(hky y (y1.en y hy).1 (hee y hy)).2, (sm y (hee y hy)).2.2.1])
  have hV' : HV (wI_ u e i w) x S ch VL := by
    refine ⟨fun j vs hj => (hV.1 j vs hj).same3 (fun k hk hky' => hky k hky' (fun z => ?_)) (fun _ => rfl) (sm _ (fun z => ?_)), hV.2⟩
    · obtain ⟨n1, n2⟩ := hn j vs hj
      rcases hk with q | q | q
      · exact n1 (q ▸ z)
      · exact n2 (q ▸ z)
      · rcases (hV.1 j vs hj).2.2.2.2.2.2.2.2.1 with ⟨y, -⟩ | ⟨y, -⟩
        · rw [← q, z] at y
          omega
        · rw [← q, z] at y
          have := y.2
          omega
    · obtain ⟨-, -, ⟨lo, hi', ⟨q1, -⟩, -⟩, -⟩ := hV.1 j vs hj
      rw [z, he] at q1
      omega
  refine ⟨⟨⟨g1, g2, g3⟩, hFd.same (sm x (by omega)) ⟨rfl, rfl⟩, t1.same (sm _ (by omega)) (sm _ (by omega)), f1.same (sm _ (by omega)) (sm _ (by omega)), ⟨h0, d1.same (sm _ (by omega)) (sm _ (by omega))⟩, ⟨S, hT', hV'⟩, hA.same (fun a q1 q2 => sm a (by omega)), ?_⟩, ⟨Nat.le_refl _, fun a q1 q2 => sm a (by omega)⟩, hT', hV'⟩
  obtain ⟨⟨c1, c2, c3, c4, c5, c6, c7⟩, c8⟩ := hX
  have fr : ∀ {r : Nat} {S : List Int}, RO (x + 64) u r S → RO (x + 64) (wI_ u e i w) r S := fun hr => RO.frame (fun a ha => sm a (fun z => by rw [z, he] at ha; omega)) (fun a ha _ => sm a (fun z => by rw [z, he] at ha; omega)) hr
  have e22 : ∀ a, a < x + 64 → iv_ (wI_ u e i w) a = iv_ u a := fun a ha => funext (sm a (by omega)).2.2.1
  refine ⟨⟨c1, fr c2, c3, fun j O hj => fr (c4 j O hj), by rw [e22 _ (by omega)]; exact c5, c6, c7⟩, ?_⟩
  rw [e22 (x + 22) (by omega), e22 (x + 24) (by omega), e22 (x + 25) (by omega), e22 (x + 27) (by omega)]
  exact c8
/-- the longest key with which a text begins -/
def Lgst (R : List Int → Prop) (tp : List Int) (L : List KV) (r : Option KV) : Prop := (r = none ∧ ∀ q ∈ L, R q.1 → ¬ q.1 <+: tp) ∨ (∃ p, r = some p ∧ p ∈ L ∧ R p.1 ∧ p.1 <+: tp ∧ ∀ q ∈ L, R q.1 → q.1 <+: tp → q.1.length ≤ p.1.length)
/-- while the part gets shorter: u when it began, a the part -/
def BI (u : Mem) (x : Nat) (fd : List Int) (M : Nat → List KV) (ch : Nat → Int) (VL : List VS) (Ks : List (List Int)) (T : List Int) (Os : List (List Int)) (S : Nat → List Nat) (vs : VS) (j a : Nat) (L : List Int) (w : Mem) : Prop := HS w x [] fd M ch VL Ks T Os ∧ MR x u w ∧ HT w x S M ch ∧ HV w x S ch VL ∧ (Sm u w (x + 3) ∧ ∀ b, b < a → kd_ u b = 11 → Sm u w b) ∧ (Ky w a ∧ kd_ w a = 2 ∧ tx w a = L) ∧ VL[j]? = some vs ∧ a < sz_ w
theorem BI.get {u w v : Mem} {x j a r : Nat} {fd : List Int} {M : Nat → List KV} {ch : Nat → Int} {VL : List VS} {Ks : List (List Int)} {T : List Int} {Os : List (List Int)} {S : Nat → List Nat} {vs : VS} {L : List Int} (h : BI u x fd M ch VL Ks T Os S vs j a L w) (hw : Wf w) (hvl : vs.1 < 3) (hau : a = sz_ u) (hE : x + 64 ≤ a) (hq : qG3 (hG x) w (tA x vs.1) (S vs.1) a r v) : BI u x fd M ch VL Ks T Os S vs j a L v ∧ ((r = 0 ∧ ∀ p ∈ M vs.1, p.1 ≠ L) ∨ (r ∈ S vs.1 ∧ tx v r = L ∧ (L, iv_ v r 2) ∈ M vs.1)) := by
  obtain ⟨p1, p2, p3, p4, p5⟩ := hq
  obtain ⟨i1, i2, i3, i4, ⟨i5, i6⟩, ⟨i7, i8, i9⟩, i10, i11⟩ := h
  obtain ⟨y1, y2, y3, y4, y5, y6⟩ := i3.2.1 vs.1 hvl
  have hSl : (S vs.1).length ≤ 39 := by
    have := (i1.1.2.1 vs.1 hvl).1
    rw [y5, List.length_map] at this
    exact this
  have hkt := tA_kd i3 hvl
  have h3 := tA_3 x vs.1
  have hK : Kp_ x w v := ⟨p3.1, fun b hb => ⟨(p3.2 b hb).1, (p3.2 b hb).2.1⟩, fun b hb hE hk => (p3.2 b hb).2.2 (fun z => by
    unfold QT Sc K5 at z
    omega)⟩
  have hen : ∀ e ∈ S vs.1, En v e ∧ tx v e = tx w e ∧ ∀ i, iv_ v e i = iv_ w e i := fun e he => hK.en hw (y1.en e he) (y6 e he)
  have h5 : M vs.1 = (S vs.1).map (fun e => (tx v e, iv_ v e 2)) := by
    rw [y5]
    exact List.map_congr_left (fun e he => by rw [(hen e he).2.1, (hen e he).2.2])
  obtain ⟨r1, r2, r3, r4, -⟩ := i1.tree hw hvl i3 i4 p3 p2 (by rw [p5 0 (by decide)]; exact y2) (by rw [p5 1 (by decide)]; exact y3) y4 (L' := M vs.1) h5 y6 (fun k hk hne e he => i3.2.2 vs.1 k hvl hk (fun z => hne z.symm) e he) hSl (i1.1.2.1 vs.1 hvl).2 (Or.inl ⟨rfl, rfl⟩)
  rw [upd_self M vs.1, upd_self ch vs.1] at r1
  rw [upd_self S vs.1, upd_self M vs.1, upd_self ch vs.1] at r3
  rw [upd_self S vs.1, upd_self ch vs.1] at r4
  have kw : ∀ b, b < a → kd_ u b = 11 → kd_ w b = 11 := fun b hb hk => by rw [(i6 b hb hk).1]; exact hk
  have k3 := i1.2.1.2.2.2.2.2.2.2.2.2.2.1
  have g1 := i1.1.1
  have hky := hK.ky hw i7 i8 hE
  refine ⟨⟨r1, i2.tr r2, r3, r4, ⟨i5.tr ((p3.2 _ (by omega)).2.2 (fun z => by unfold QT Sc K5 at z; omega)), fun b hb hk => (i6 b hb hk).tr ((p3.2 b (by omega)).2.2 (fun z => ?_))⟩, ⟨hky.1, by rw [(hK.2.1 a i11).1]; exact i8, by rw [hky.2]; exact i9⟩, i10, by have := p3.1; omega⟩, ?_⟩
  · have := kw b hb hk
    rcases z with z | z
    · unfold Sc K5 at z; omega
    · rw [z] at this; omega
  · rcases p1 with ⟨q1, q2⟩ | ⟨q1, q2⟩
    · refine Or.inl ⟨q1, fun p hp => ?_⟩
      rw [y5] at hp
      obtain ⟨e, he, rfl⟩ := List.mem_map.mp hp
      simp only
      rw [← i9]
      exact q2 e he
    · have e1 := (hen r q1).2.1
      refine Or.inr ⟨q1, by rw [e1, q2, i9], ?_⟩
      rw [h5, ← i9, ← q2, ← e1]
      exact List.mem_map_of_mem q1
theorem BI.pop {u w : Mem} {x j a : Nat} {fd : List Int} {M : Nat → List KV} {ch : Nat → Int} {VL : List VS} {Ks : List (List Int)} {T : List Int} {Os : List (List Int)} {S : Nat → List Nat} {vs : VS} {L : List Int} {c : Int} (h : BI u x fd M ch VL Ks T Os S vs j a (L ++ [c]) w) (hw : Wf w) (hE : x + 64 ≤ a) (hu : HV u x S ch VL) (hwu : Wf u) (hau : sz_ u = a) : BI u x fd M ch VL Ks T Os S vs j a L (wI_ w a 1 (L.length : Int)) := by
  obtain ⟨i1, i2, i3, i4, ⟨i5, i6⟩, ⟨i7, i8, i9⟩, i10, i11⟩ := h
  obtain ⟨g1, g2⟩ := tx_pop i7 i9
  have hn : ∀ (k : Nat) ws, VL[k]? = some ws → rv_ w (rv_ w (x + 3) (k : Int)) 1 ≠ a ∧ rv_ w (rv_ w (x + 3) (k : Int)) 2 ≠ a := fun k ws hk => by
    obtain ⟨q1, q2, ⟨lo, hi, ⟨q3, q4, q5, q6⟩, q7⟩, -⟩ := hu.1 k ws hk
    have hl := (hwu.1 _ (by rw [q3]; decide)).1
    have s := i6 _ (by omega) q3
    have lt : ∀ {k : Nat} {o : Option (List Int)}, KyO u k o → k ≠ a := fun {k o} hko z => by
      rcases hko with ⟨y, -⟩ | ⟨y, -⟩
      · omega
      · have := (y.lt hwu).1
        omega
    rw [i5.2.2.2, s.2.2.2, s.2.2.2]
    exact ⟨lt q5, lt q6⟩
  obtain ⟨r1, r2, r3, r4⟩ := i1.lose (i := 1) (w := (L.length : Int)) hw i3 i4 i8 hE hn
  have sm : ∀ b, b ≠ a → Sm w (wI_ w a 1 (L.length : Int)) b := fun b hb => Sm.wI hb
  exact ⟨r1, i2.tr r2, r3, r4, ⟨i5.tr (sm _ (by omega)), fun b hb hk => (i6 b hb hk).tr (sm b (by omega))⟩, ⟨g1, i8, g2⟩, i10, i11⟩
theorem beg_fin {x t e : Nat} {w : Mem} {Sl : List Nat} {Ml : List KV} {c : Int} {tp L : List Int} {R : List Int → Prop} {q : Option KV} (hTi : TP (hG x) w t Sl ∧ iv_ w t 0 = Sl.length ∧ iv_ w t 1 = c ∧ Sl.Nodup ∧ Ml = Sl.map (fun e => (tx w e, iv_ w e 2)) ∧ ∀ e ∈ Sl, x + 64 ≤ e) (hlen : Ml.length ≤ 39) (hq : Lgst R tp Ml q) (hL : L <+: tp) (hlg : ∀ p ∈ Ml, R p.1 → p.1 <+: tp → p.1.length ≤ L.length) (hr : (e = 0 ∧ ∀ p ∈ Ml, R p.1 → p.1 ≠ L) ∨ (e ∈ Sl ∧ tx w e = L ∧ (L, iv_ w e 2) ∈ Ml ∧ R L)) (h0 : e = 0 → e ∈ Sl ∨ L = []) (he0 : 0 ∉ Sl) : isP w Sl e q := by
  obtain ⟨y1, y2, y3, y4, y5, y6⟩ := hTi
  rcases hr with ⟨z1, z2⟩ | ⟨z1, z2, z3, z4⟩
  · have hL0 : L = [] := by
      rcases h0 z1 with y | y
      · rw [z1] at y; exact absurd y he0
      · exact y
    refine Or.inl ⟨?_, z1⟩
    rcases hq with ⟨q1, -⟩ | ⟨p, -, q2, q3, q4, -⟩
    · exact q1
    · have := hlg p q2 q3 q4
      rw [hL0] at this z2
      exact absurd (List.eq_nil_of_length_eq_zero (by simpa using this)) (z2 p q2 q3)
  · rcases hq with ⟨-, q1⟩ | ⟨p, q1, q2, q3, q4, q5⟩
    · exact absurd hL (q1 _ z3 z4)
    · have l1 := hlg p q2 q3 q4
      have l2 := q5 _ z3 z4 hL
      have e1 : p.1 = L := (List.prefix_of_prefix_length_le q4 hL l1).eq_of_length (by simp only at l2; omega)
      refine Or.inr ⟨p, q1, z1, by rw [e1]; exact z2, ?_⟩
      rw [y5] at q2
      obtain ⟨e', he', hp⟩ := List.mem_map.mp q2
      have : e' = e := y1.inj (by rw [y5, List.length_map] at hlen; omega) e' he' e z1 (by rw [z2, ← e1, ← hp])
      rw [← hp, this]
theorem c_beginning (l : Launch) (u : Mem) {x j : Nat} {tp fd : List Int} {M : Nat → List KV} {ch : Nat → Int} {VL : List VS} {Ks : List (List Int)} {T : List Int} {Os : List (List Int)} {vs : VS} {S : Nat → List Nat} {q : Option KV} (h : HS u x [] fd M ch VL Ks T Os) (hj : VL[j]? = some vs) (hT : HT u x S M ch) (hV : HV u x S ch VL) (hk : HK u (x + 28) tp) (hq : Lgst vs.2.1 tp (M vs.1) q) :
    Mt_ l yX1_beginning cX1_beginning 4 (some (.object "KeyHall$Entry")) 4 2 10 [aR (rv_ u (x + 3) (j : Int)), aR (x + 28)] u (qR fun r v => HS v x [] fd M ch VL Ks T Os ∧ MR x u v ∧ HT v x S M ch ∧ isP v (S vs.1) r q) := by
  have g1 := h.1.1
  have v2 := (hV.1 j vs hj).2.1
  refine Mt_of (by decide) (Nat.le_of_ble_eq_true rfl) (fun X ho hX hN hI => ?_)
  subst hX
  show Z X 0 [some (aR  (rv_ u (x + 3) (j : Int))), some (aR  (x + 28)), none, none] [] u 0 0
  refine z_wf (fun hw => ?_)
  obtain ⟨n1, n2, n3, n4, n5, n6, n7, n8⟩ := nkc hw hk.1
  have hz2 := hw.2.2
  have e0 : wR_ (al_ (al_ u 2 0) 101 8) (sz_ u) 0 (sz_ (al_ u 2 0)) = nky u 2 := rfl
  refine nX1_7 ho dX1_beginning_0 (Nat.le_of_ble_eq_true rfl) (Nat.le_of_ble_eq_true rfl) ?_
  refine z_dup ho dX1_beginning_3 rfl ?_
  refine kX1_9 ho hN (c_Key_init _ _ (Or.inl (by rw [kd_al, if_pos rfl]))) dX1_beginning_4 (by omega) (Nat.le_of_ble_eq_true rfl) (Nat.le_of_ble_eq_true rfl) (Nat.le_of_ble_eq_true rfl) (Nat.le_of_ble_eq_true rfl) (fun u4 h4 => ?_)
  obtain rfl := h4
  rw [e0]
  refine z_aload_n ho dX1_beginning_7 rfl ?_
  refine kX1_80 ho hN (c_copy _ _ n6 n7 n8) dX1_beginning_8 (n6.1) (Nat.le_of_ble_eq_true rfl) (Nat.le_of_ble_eq_true rfl) (Nat.le_of_ble_eq_true rfl) (Nat.le_of_ble_eq_true rfl) (fun x8 u8 h8 => ?_)
  obtain ⟨rfl, rfl⟩ := h8
  refine z_astore_n ho dX1_beginning_11 (Nat.le_of_ble_eq_true rfl) rfl ?_
  have H2 := h.grow hw (by omega) n5
  obtain ⟨hT2, hV2, -⟩ := h.keepS hT hV hw (by omega) (fun a ha => ⟨(n5 a ha).1, (n5 a ha).2.1⟩) (fun a ha _ => n5 a ha)
  have hI0 : BI u x fd M ch VL Ks T Os S vs j (sz_ u) tp (cpy (nky u 2) (sz_ u) (x + 28)) := ⟨H2, ⟨by omega, fun a q1 q2 => n5 a (by omega)⟩, hT2, hV2, ⟨n5 _ (by omega), fun b hb _ => n5 b hb⟩, ⟨n1, n3, by rw [n2]; exact hk.2.2⟩, hj, by omega⟩
  generalize hau : sz_ u = a at *
  have hE : x + 64 ≤ a := g1
  generalize cpy (nky u 2) a (x + 28) = w at *
  -- what the loop keeps: no longer part is a key of the view
  have key : ∀ (n e : Nat) (w : Mem) (L : List Int), L.length = n → L <+: tp → BI u x fd M ch VL Ks T Os S vs j a L w → (∀ p ∈ M vs.1, vs.2.1 p.1 → p.1 <+: tp → p.1.length ≤ L.length) → ((e = 0 ∧ ∀ p ∈ M vs.1, vs.2.1 p.1 → p.1 ≠ L) ∨ (e ∈ S vs.1 ∧ tx w e = L ∧ (L, iv_ w e 2) ∈ M vs.1 ∧ vs.2.1 L)) → Z X 33 [some (aR (rv_ u (x + 3) (j : Int))), some (aR (x + 28)), some (aR a), some (aR e)] [] w 2 10 := by
    intro n
    induction n with
    | zero =>
      intro e w L hn hL hI hlg hr
      refine z_wf (fun hwI => ?_)
      have hka := hI.2.2.2.2.2.1
      obtain rfl := List.eq_nil_of_length_eq_zero hn
      have hn0 : iv_ w a 1 = 0 := by have := hka.1.tx_len; rw [hka.2.2] at this; exact this.symm
      have fin : Z X 78 [some (aR (rv_ u (x + 3) (j : Int))), some (aR (x + 28)), some (aR a), some (aR e)] [] w 2 10 := by
        refine z_aload_n ho dX1_beginning_78 rfl ?_
        refine r_R ho dX1_beginning_79 (Nat.le_of_ble_eq_true rfl) (Nat.le_of_ble_eq_true rfl) ?_
        refine ⟨hI.1, hI.2.1, hI.2.2.1, beg_fin (hI.2.2.1.2.1 vs.1 v2) (hI.1.1.2.1 vs.1 v2).1 hq hL hlg hr (fun _ => Or.inr rfl) (fun z => ((hI.2.2.1.2.1 vs.1 v2).1.en _ z).ne0 hwI rfl)⟩
      refine z_aload_n ho dX1_beginning_33 rfl ?_
      refine z_ifnonnull (tgt := 78) ho dX1_beginning_34 (by decide) (fun c34 => ?_) (fun c34 => ?_)
      · exact fin
      · 
        refine z_aload_n ho dX1_beginning_37 rfl ?_
        refine gX1_84 ho dX1_beginning_38 hka.1.1 ?_
        refine z_if_le (tgt := 78) ho dX1_beginning_41 (by decide) (by unfold rng; omega) (fun c41 => ?_) (fun c41 => ?_)
        · exact fin
        · omega
    | succ n ih =>
      intro e w L hn hL hI hlg hr
      refine z_wf (fun hwI => ?_)
      have hka := hI.2.2.2.2.2.1
      rcases List.eq_nil_or_concat L with rfl | ⟨L', c, hLc⟩
      · simp at hn
      rw [List.concat_eq_append] at hLc
      have hn0 : iv_ w a 1 = L.length := by have := hka.1.tx_len; rw [hka.2.2] at this; exact this.symm
      have hl8 := hka.1.2.2.2.2.2.1
      refine z_aload_n ho dX1_beginning_33 rfl ?_
      refine z_ifnonnull (tgt := 78) ho dX1_beginning_34 (by decide) (fun c34 => ?_) (fun c34 => ?_)
      · 
        refine z_aload_n ho dX1_beginning_78 rfl ?_
        refine r_R ho dX1_beginning_79 (Nat.le_of_ble_eq_true rfl) (Nat.le_of_ble_eq_true rfl) ?_
        refine ⟨hI.1, hI.2.1, hI.2.2.1, beg_fin (hI.2.2.1.2.1 vs.1 v2) (hI.1.1.2.1 vs.1 v2).1 hq hL hlg hr (fun z => absurd z c34) (fun z => ((hI.2.2.1.2.1 vs.1 v2).1.en _ z).ne0 hwI rfl)⟩
      · have hno : ∀ p ∈ M vs.1, vs.2.1 p.1 → p.1 ≠ L := by
          rcases hr with ⟨-, z⟩ | ⟨z, -⟩
          · exact z
          · exact absurd c34 (((hI.2.2.1.2.1 vs.1 v2).1.en _ z).ne0 hwI)
        refine z_aload_n ho dX1_beginning_37 rfl ?_
        refine gX1_84 ho dX1_beginning_38 hka.1.1 ?_
        refine z_if_le (tgt := 78) ho dX1_beginning_41 (by decide) (by unfold rng; omega) (fun c41 => ?_) (fun c41 => ?_)
        · omega
        · 
          refine z_aload_n ho dX1_beginning_44 rfl ?_
          refine z_dup ho dX1_beginning_45 rfl ?_
          refine gX1_84 ho dX1_beginning_46 hka.1.1 ?_
          refine z_iconst ho dX1_beginning_49 ?_
          refine z_isub ho dX1_beginning_50 ?_
          refine pX1_84 ho dX1_beginning_51 hka.1.1  ?_
          subst hLc
          have e5 : iv_ w a 1 - 1 = (L'.length : Int) := by rw [hn0]; simp
          rw [e5]
          have hI2 := hI.pop hwI hE hV hw hau
          have hL2 : L' <+: tp := (List.prefix_append L' [c]).trans hL
          have hlg2 : ∀ p ∈ M vs.1, vs.2.1 p.1 → p.1 <+: tp → p.1.length ≤ L'.length := fun p hp hr hpt => by
            have h1 := hlg p hp hr hpt
            rcases Nat.lt_or_ge L'.length p.1.length with y | y
            · exact absurd (List.prefix_of_prefix_length_le hpt hL h1 |>.eq_of_length (by simp at h1 ⊢; omega)) (hno p hp hr)
            · exact y
          have hn2 : L'.length = n := by simpa using hn
          clear hI hlg hr hno hka hn0 hl8 hL hn e5
          generalize wI_ w a 1 (L'.length : Int) = w2 at hI2
          have hI := hI2
          have hL := hL2
          have hlg := hlg2
          have hn := hn2
          clear hwI
          refine z_wf (fun hwI => ?_)
          have hv := hI.2.2.2.1.1 j vs hj
          rw [hI.2.2.2.2.1.1.2.2.2] at hv
          obtain ⟨-, -, ⟨lo, hi, hVw, hR⟩, -⟩ := hv
          have y1 := (hI.2.2.1.2.1 vs.1 v2).1
          obtain ⟨hka, -, hkx⟩ := hI.2.2.2.2.2.1
          refine z_aload_n ho dX1_beginning_54 rfl ?_
          refine z_aload_n ho dX1_beginning_55 rfl ?_
          refine kX1_115 ho hN (c_has _ _ hVw hka) dX1_beginning_56 hVw.1 (by omega) (Nat.le_of_ble_eq_true rfl) (Nat.le_of_ble_eq_true rfl) (Nat.le_of_ble_eq_true rfl) (fun x56 u56 h56 => ?_)
          obtain ⟨rfl, hq⟩ := h56
          refine z_if_eq (tgt := 73) ho dX1_beginning_59 (by decide) (by rcases hq with ⟨z, -⟩ | ⟨z, -⟩ <;> rw [z] <;> unfold rng <;> omega) (fun c59 => ?_) (fun c59 => ?_)
          · 
            refine z_null ho dX1_beginning_73 ?_
            refine z_astore_n ho dX1_beginning_74 (Nat.le_of_ble_eq_true rfl) rfl ?_
            refine z_goto (tgt := 33) ho dX1_beginning_75 (by decide) ?_
            refine ih 0 _ L' hn hL hI hlg (Or.inl ⟨rfl, fun p hp hr z => ?_⟩)
            rw [hkx] at hq
            rcases hq with ⟨y, -⟩ | ⟨-, y⟩
            · omega
            · rw [z] at hr
              exact y ((hR _ (by rw [← hkx]; exact hka.Tx)).mpr hr)
          · have hin : vs.2.1 L' := by
              rw [hkx] at hq
              rcases hq with ⟨-, z⟩ | ⟨z, -⟩
              · exact (hR _ (by rw [← hkx]; exact hka.Tx)).mp z
              · exact absurd z c59
            refine z_aload_n ho dX1_beginning_62 rfl ?_
            refine gX1_124 ho dX1_beginning_63 hVw.1 ?_
            rw [hVw.2.1]
            refine z_aload_n ho dX1_beginning_66 rfl ?_
            refine or_call3 (y1.k3) (fun hq cc => kX1_128_4 ho hN (c_R4_get _ _ y1 hka hq) dX1_beginning_67 hq (by omega) (Nat.le_of_ble_eq_true rfl) (Nat.le_of_ble_eq_true rfl) (Nat.le_of_ble_eq_true rfl) cc) (fun hq cc => kX1_128_5 ho hN (c_R5_get _ _ y1 hka hq) dX1_beginning_67 hq (by omega) (Nat.le_of_ble_eq_true rfl) (Nat.le_of_ble_eq_true rfl) (Nat.le_of_ble_eq_true rfl) cc) (fun hq cc => kX1_128_12 ho hN (c_R12_get _ _ y1 hka hq) dX1_beginning_67 hq (by omega) (Nat.le_of_ble_eq_true rfl) (Nat.le_of_ble_eq_true rfl) (Nat.le_of_ble_eq_true rfl) cc) (fun x67 u67 h67 => ?_)
            refine z_goto (tgt := 74) ho dX1_beginning_70 (by decide) ?_
            refine z_astore_n ho dX1_beginning_74 (Nat.le_of_ble_eq_true rfl) rfl ?_
            refine z_goto (tgt := 33) ho dX1_beginning_75 (by decide) ?_
            obtain ⟨hI', hr⟩ := hI.get hwI v2 hau.symm hE h67
            refine ih _ _ L' hn hL hI' hlg ?_
            rcases hr with ⟨z1, z2⟩ | ⟨z1, z2, z3⟩
            · exact Or.inl ⟨z1, fun p hp _ => z2 p hp⟩
            · exact Or.inr ⟨z1, z2, z3, hin⟩
  -- the first part
  have hL : tp <+: tp := List.prefix_refl tp
  have hlg : ∀ p ∈ M vs.1, vs.2.1 p.1 → p.1 <+: tp → p.1.length ≤ tp.length := fun p _ _ hp => hp.length_le
  have hI := hI0
  refine z_wf (fun hwI => ?_)
  have hv := hI.2.2.2.1.1 j vs hj
  rw [hI.2.2.2.2.1.1.2.2.2] at hv
  obtain ⟨-, -, ⟨lo, hi, hVw, hR⟩, -⟩ := hv
  have y1 := (hI.2.2.1.2.1 vs.1 v2).1
  obtain ⟨hka, -, hkx⟩ := hI.2.2.2.2.2.1
  refine z_aload_n ho dX1_beginning_12 rfl ?_
  refine z_aload_n ho dX1_beginning_13 rfl ?_
  refine kX1_115 ho hN (c_has _ _ hVw hka) dX1_beginning_14 hVw.1 (by omega) (Nat.le_of_ble_eq_true rfl) (Nat.le_of_ble_eq_true rfl) (Nat.le_of_ble_eq_true rfl) (fun x14 u14 h14 => ?_)
  obtain ⟨rfl, hq⟩ := h14
  refine z_if_eq (tgt := 31) ho dX1_beginning_17 (by decide) (by rcases hq with ⟨z, -⟩ | ⟨z, -⟩ <;> rw [z] <;> unfold rng <;> omega) (fun c17 => ?_) (fun c17 => ?_)
  · 
    refine z_null ho dX1_beginning_31 ?_
    refine z_astore_n ho dX1_beginning_32 (Nat.le_of_ble_eq_true rfl) rfl ?_
    refine key _ 0 _ tp rfl hL hI hlg (Or.inl ⟨rfl, fun p hp hr z => ?_⟩)
    rw [hkx] at hq
    rcases hq with ⟨y, -⟩ | ⟨-, y⟩
    · omega
    · rw [z] at hr
      exact y ((hR _ (by rw [← hkx]; exact hka.Tx)).mpr hr)
  · have hin : vs.2.1 tp := by
      rw [hkx] at hq
      rcases hq with ⟨-, z⟩ | ⟨z, -⟩
      · exact (hR _ (by rw [← hkx]; exact hka.Tx)).mp z
      · exact absurd z c17
    refine z_aload_n ho dX1_beginning_20 rfl ?_
    refine gX1_124 ho dX1_beginning_21 hVw.1 ?_
    rw [hVw.2.1]
    refine z_aload_n ho dX1_beginning_24 rfl ?_
    refine or_call3 (y1.k3) (fun hq cc => kX1_128_4 ho hN (c_R4_get _ _ y1 hka hq) dX1_beginning_25 hq (by omega) (Nat.le_of_ble_eq_true rfl) (Nat.le_of_ble_eq_true rfl) (Nat.le_of_ble_eq_true rfl) cc) (fun hq cc => kX1_128_5 ho hN (c_R5_get _ _ y1 hka hq) dX1_beginning_25 hq (by omega) (Nat.le_of_ble_eq_true rfl) (Nat.le_of_ble_eq_true rfl) (Nat.le_of_ble_eq_true rfl) cc) (fun hq cc => kX1_128_12 ho hN (c_R12_get _ _ y1 hka hq) dX1_beginning_25 hq (by omega) (Nat.le_of_ble_eq_true rfl) (Nat.le_of_ble_eq_true rfl) (Nat.le_of_ble_eq_true rfl) cc) (fun x25 u25 h25 => ?_)
    refine z_goto (tgt := 32) ho dX1_beginning_28 (by decide) ?_
    refine z_astore_n ho dX1_beginning_32 (Nat.le_of_ble_eq_true rfl) rfl ?_
    obtain ⟨hI', hr⟩ := hI.get hwI v2 hau.symm hE h25
    refine key _ _ _ tp rfl hL hI' hlg ?_
    rcases hr with ⟨z1, z2⟩ | ⟨z1, z2, z3⟩
    · exact Or.inl ⟨z1, fun p hp _ => z2 p hp⟩
    · exact Or.inr ⟨z1, z2, z3, hin⟩
