set_option maxRecDepth 100000
/-! ===== KeyHall.entry, get, remove ===== -/
/-- the last one comes in the place of the one between A and B -/
def swp {α : Type} (A B : List α) : List α := match B.getLast? with
  | none => A
  | some p => A ++ p :: B.dropLast
theorem swp_map {α β : Type} (f : α → β) (A B : List α) : (swp A B).map f = swp (A.map f) (B.map f) := by
  unfold swp
  rw [List.getLast?_map]
  cases h : B.getLast? with
  | none => rfl
  | some p => simp [List.map_dropLast]
theorem swp_perm {α : Type} (A B : List α) : (swp A B).Perm (A ++ B) := by
  unfold swp
  rcases List.eq_nil_or_concat B with rfl | ⟨B', p, rfl⟩
  · simp
  · rw [List.concat_eq_append, List.getLast?_concat]
    simp only [List.dropLast_concat]
    refine List.Perm.append_left A ?_
    exact (List.perm_append_comm (l₁ := [p]) (l₂ := B'))
/-- keys change: maps and views are the same -/
theorem HS.keepS {u v : Mem} {x : Nat} {tp fd : List Int} {M : Nat → List KV} {ch : Nat → Int} {VL : List VS} {Ks : List (List Int)} {T : List Int} {Os : List (List Int)} {S : Nat → List Nat} (h : HS u x tp fd M ch VL Ks T Os) (hT : HT u x S M ch) (hV : HV u x S ch VL) (hw : Wf u) (hz : sz_ u ≤ sz_ v) (hkl : ∀ a, a < sz_ u → kd_ v a = kd_ u a ∧ ln_ v a = ln_ u a) (hs : ∀ a, a < sz_ u → ¬ kC x a → Sm u v a) : HT v x S M ch ∧ HV v x S ch VL ∧ Kp_ x u v := by
  obtain ⟨⟨g1, g2⟩, hF, ⟨t1, t2, -⟩, ⟨f1, f2, -⟩, ⟨h0, ⟨d1, d2, -⟩⟩, -⟩ := h
  have kk : ∀ a, kC x a → kd_ u a = 2 ∨ kd_ u a = 101 := fun a ha => by
    rcases ha with z | z | z | z | z | z
    · rw [z]; exact Or.inl t2
    · rw [z]; exact Or.inr t1.2.2.1
    · rw [z]; exact Or.inl f2
    · rw [z]; exact Or.inr f1.2.2.1
    · rw [z]; exact Or.inl d2
    · rw [z]; exact Or.inr d1.2.2.1
  have hK : Kp_ x u v := ⟨hz, hkl, fun a ha hE _ => hs a ha (fun z => by unfold kC at z; omega)⟩
  refine ⟨hT.same hw hK (fun i hi => ?_) (fun i a hi ha hsc => hs a ha (fun z => ?_)), hV.same hw hK (hs _ (by omega) (by unfold kC; omega)) (fun a ha hk => hs a ha (fun z => by have := kk a z; omega)) (fun _ => Int.le_refl _) (fun vs _ a _ _ z => ⟨z, fun y => y⟩), hK⟩
  · have := tA_3 x i
    have s := hs (tA x i) (by omega) (by unfold kC; omega)
    exact ⟨s.2.2.2, s.2.2.1 0, s.2.2.1 1⟩
  · have := kk a z
    unfold Sc K5 at hsc
    omega
theorem hG_lt {u : Mem} {x : Nat} (h : x + 64 ≤ sz_ u) : ∀ a, hG x a → a < sz_ u := fun a ha => by unfold hG at ha; omega
/-- what get gives, on the list -/
theorem get_M {G : Nat → Prop} {u : Mem} {t k r : Nat} {S : List Nat} {L : List KV} (hT : TP G u t S) (hl : S.length ≤ 64) (hnd : S.Nodup) (hL : L = S.map (fun e => (tx u e, iv_ u e 2))) (hq : qGet u S k r) : (r = 0 ∧ ∀ p ∈ L, p.1 ≠ tx u k) ∨ (r ∈ S ∧ tx u r = tx u k ∧ ∃ A B, S = A ++ r :: B ∧ L = A.map (fun e => (tx u e, iv_ u e 2)) ++ (tx u k, iv_ u r 2) :: B.map (fun e => (tx u e, iv_ u e 2)) ∧ (∀ p ∈ A.map (fun e => (tx u e, iv_ u e 2)) ++ B.map (fun e => (tx u e, iv_ u e 2)), p.1 ≠ tx u k) ∧ ∀ e ∈ A ++ B, e ≠ r) := by
  rcases hq with ⟨h1, h2⟩ | ⟨h1, h2⟩
  · refine Or.inl ⟨h1, fun p hp => ?_⟩
    rw [hL] at hp
    obtain ⟨e, he, rfl⟩ := List.mem_map.mp hp
    exact h2 e he
  · refine Or.inr ⟨h1, h2, ?_⟩
    obtain ⟨A, B, hAB⟩ := List.append_of_mem h1
    rw [hAB] at hnd
    obtain ⟨-, n2, n3⟩ := List.nodup_append.mp hnd
    have ne : ∀ e ∈ A ++ B, e ≠ r := fun e he => by
      rcases List.mem_append.mp he with q | q
      · exact n3 e q r (by simp)
      · exact fun z => (List.nodup_cons.mp n2).1 (z ▸ q)
    refine ⟨A, B, hAB, by rw [hL, hAB, List.map_append, List.map_cons, h2], fun p hp => ?_, ne⟩
    rw [← List.map_append] at hp
    obtain ⟨e, he, rfl⟩ := List.mem_map.mp hp
    intro z
    have hS : e ∈ S := by rw [hAB]; simp only [List.mem_append, List.mem_cons] at he ⊢; rcases he with q | q; (· exact Or.inl q); exact Or.inr (Or.inr q)
    exact ne e he (hT.inj hl e hS r h1 (by rw [h2]; exact z))
theorem c_entry (l : Launch) (u : Mem) {x j : Nat} {tp fd : List Int} {M : Nat → List KV} {ch : Nat → Int} {VL : List VS} {Ks : List (List Int)} {T : List Int} {Os : List (List Int)} {vs : VS} {S : Nat → List Nat} (h : HS u x tp fd M ch VL Ks T Os) (hj : VL[j]? = some vs) (hT : HT u x S M ch) (hV : HV u x S ch VL) :
    Mt_ l yX1_entry cX1_entry 3 (some (.object "KeyHall$Entry")) 4 0 0 [aR x, aR (rv_ u (x + 3) (j : Int))] u (qR fun r v => HS v x [] fd M ch VL Ks T Os ∧ MR x u v ∧ HT v x S M ch ∧ HV v x S ch VL ∧ rv_ v (x + 3) (j : Int) = rv_ u (x + 3) (j : Int) ∧ ((r = 0 ∧ (¬ vs.2.1 tp ∨ ∀ p ∈ M vs.1, p.1 ≠ tp)) ∨ (vs.2.1 tp ∧ r ∈ S vs.1 ∧ ∃ A B, S vs.1 = A ++ r :: B ∧ M vs.1 = A.map (fun e => (tx v e, iv_ v e 2)) ++ (tp, iv_ v r 2) :: B.map (fun e => (tx v e, iv_ v e 2)) ∧ (∀ p ∈ A.map (fun e => (tx v e, iv_ v e 2)) ++ B.map (fun e => (tx v e, iv_ v e 2)), p.1 ≠ tp) ∧ ∀ e ∈ A ++ B, e ≠ r))) := by
  have kx := h.2.1.1
  have g1 := h.1.1
  refine Mt_of (by decide) (Nat.le_of_ble_eq_true rfl) (fun X ho hX hN hI => ?_)
  subst hX
  show Z X 0 [some (aR x), some (aR  (rv_ u (x + 3) (j : Int))), none] [] u 0 0
  refine z_wf (fun hw => ?_)
  refine z_aload_n ho dX1_entry_0 rfl ?_
  refine kX1_95 ho hN (c_use _ _ h) dX1_entry_1 kx (by omega) (Nat.le_of_ble_eq_true rfl) (Nat.le_of_ble_eq_true rfl) (Nat.le_of_ble_eq_true rfl) (fun x1 u1 h1 => ?_)
  obtain ⟨rfl, u2, u3, u4, u5, u6⟩ := h1
  refine z_wf (fun hw1 => ?_)
  have M1 : MR x u u1 := ⟨by omega, fun a q1 q2 => u6 a (by omega) (by omega) (by omega)⟩
  obtain ⟨hT1, hV1, hK1⟩ := h.keepS hT hV hw (by omega) u5 (fun a ha hn => u6 a (fun z => hn (Or.inl z)) (fun z => hn (by unfold kC; simp [z])) (fun z => hn (by unfold kC; simp [z])))
  have s3 := u6 (x + 3) (by omega) (by omega) (by omega)
  have hv := hV1.1 j vs hj
  rw [s3.2.2.2] at hv
  obtain ⟨v1, v2, ⟨lo, hi, hVw, hR⟩, -⟩ := hv
  obtain ⟨y1, y2, y3, y4, y5, y6⟩ := hT1.2.1 vs.1 v2
  have htp : Tx tp := by have := u2.1.Tx; rw [u2.2.2] at this; exact this
  have hSl : (S vs.1).length ≤ 39 := by
    have := (h.1.2.1 vs.1 v2).1
    rw [(hT.2.1 vs.1 v2).2.2.2.2.1, List.length_map] at this
    exact this
  refine z_astore_n ho dX1_entry_4 (Nat.le_of_ble_eq_true rfl) rfl ?_
  refine z_aload_n ho dX1_entry_5 rfl ?_
  refine z_aload_n ho dX1_entry_6 rfl ?_
  refine kX1_115 ho hN (c_has _ _ hVw u2.1) dX1_entry_7 hVw.1 (by omega) (Nat.le_of_ble_eq_true rfl) (Nat.le_of_ble_eq_true rfl) (Nat.le_of_ble_eq_true rfl) (fun x7 u7 h7 => ?_)
  obtain ⟨rfl, hq⟩ := h7
  refine z_if_eq (tgt := 24) ho dX1_entry_10 (by decide) (by rcases hq with ⟨z, -⟩ | ⟨z, -⟩ <;> rw [z] <;> unfold rng <;> omega) (fun c10 => ?_) (fun c10 => ?_)
  · 
    refine z_null ho dX1_entry_24 ?_
    refine r_R ho dX1_entry_25 (Nat.le_of_ble_eq_true rfl) (Nat.le_of_ble_eq_true rfl) ?_
    refine ⟨u3, M1, hT1, hV1, s3.2.2.2 _, Or.inl ⟨rfl, Or.inl ?_⟩⟩
    rw [u2.2.2] at hq
    rcases hq with ⟨z, -⟩ | ⟨-, z⟩
    · omega
    · exact fun w => z ((hR tp htp).mpr w)
  · have hin : vs.2.1 tp := by
      rw [u2.2.2] at hq
      rcases hq with ⟨-, z⟩ | ⟨z, -⟩
      · exact (hR tp htp).mp z
      · exact absurd z c10
    refine z_aload_n ho dX1_entry_13 rfl ?_
    refine gX1_124 ho dX1_entry_14 hVw.1 ?_
    rw [hVw.2.1]
    refine z_aload_n ho dX1_entry_17 rfl ?_
    refine or_call3 (y1.k3) (fun hq cc => kX1_128_4 ho hN (c_R4_get _ _ y1 u2.1 hq) dX1_entry_18 hq (by omega) (Nat.le_of_ble_eq_true rfl) (Nat.le_of_ble_eq_true rfl) (Nat.le_of_ble_eq_true rfl) cc) (fun hq cc => kX1_128_5 ho hN (c_R5_get _ _ y1 u2.1 hq) dX1_entry_18 hq (by omega) (Nat.le_of_ble_eq_true rfl) (Nat.le_of_ble_eq_true rfl) (Nat.le_of_ble_eq_true rfl) cc) (fun hq cc => kX1_128_12 ho hN (c_R12_get _ _ y1 u2.1 hq) dX1_entry_18 hq (by omega) (Nat.le_of_ble_eq_true rfl) (Nat.le_of_ble_eq_true rfl) (Nat.le_of_ble_eq_true rfl) cc) (fun x18 u18 h18 => ?_)
    obtain ⟨p1, p2, p3, p4, p5⟩ := h18
    refine z_goto (tgt := 25) ho dX1_entry_21 (by decide) ?_
    refine r_R ho dX1_entry_25 (Nat.le_of_ble_eq_true rfl) (Nat.le_of_ble_eq_true rfl) ?_
    have h5 : M vs.1 = (S vs.1).map (fun e => (tx u18 e, iv_ u18 e 2)) := by
      rw [y5]
      refine List.map_congr_left (fun e he => ?_)
      have : Kp_ x u1 u18 := ⟨p3.1, fun a ha => ⟨(p3.2 a ha).1, (p3.2 a ha).2.1⟩, fun a ha hE hk => (p3.2 a ha).2.2 (fun z => by
        have h3 := tA_3 x vs.1
        unfold QT Sc K5 at z
        omega)⟩
      have := this.en hw1 (y1.en e he) (y6 e he)
      rw [this.2.1, this.2.2]
    obtain ⟨r1, r2, r3, r4, hK2⟩ := u3.tree hw1 v2 hT1 hV1 p3 p2 (by rw [p5 0 (by decide)]; exact y2) (by rw [p5 1 (by decide)]; exact y3) y4 (L' := M vs.1) h5 y6 (fun k hk hne e he => hT1.2.2 vs.1 k v2 hk (fun z => hne z.symm) e he) hSl (h.1.2.1 vs.1 v2).2 (Or.inl ⟨rfl, rfl⟩)
    rw [upd_self M vs.1, upd_self ch vs.1] at r1
    rw [upd_self S vs.1, upd_self M vs.1, upd_self ch vs.1] at r3
    rw [upd_self S vs.1, upd_self ch vs.1] at r4
    have s3' : Sm u1 u18 (x + 3) := by
      refine (p3.2 (x + 3) (by omega)).2.2 (fun z => ?_)
      have k3 := u3.2.1.2.2.2.2.2.2.2.2.2.2.1
      have h3 := tA_3 x vs.1
      unfold QT Sc K5 at z
      omega
    have hen : ∀ e ∈ S vs.1, tx u18 e = tx u1 e ∧ ∀ i, iv_ u18 e i = iv_ u1 e i := fun e he => (hK2.en hw1 (y1.en e he) (y6 e he)).2
    refine ⟨r1, M1.tr r2, r3, r4, by rw [s3'.2.2.2]; exact s3.2.2.2 _, ?_⟩
    rcases get_M y1 (by omega) y4 y5 p1 with ⟨z1, z2⟩ | ⟨z1, z2, A, B, z3, z4, z5, z6⟩
    · rw [u2.2.2] at z2
      exact Or.inl ⟨z1, Or.inr z2⟩
    · rw [u2.2.2] at z4 z5
      have eA : A.map (fun e => (tx u18 e, iv_ u18 e 2)) = A.map (fun e => (tx u1 e, iv_ u1 e 2)) := List.map_congr_left (fun e he => by have := hen e (by rw [z3]; simp [he]); rw [this.1, this.2])
      have eB : B.map (fun e => (tx u18 e, iv_ u18 e 2)) = B.map (fun e => (tx u1 e, iv_ u1 e 2)) := List.map_congr_left (fun e he => by have := hen e (by rw [z3]; simp [he]); rw [this.1, this.2])
      exact Or.inr ⟨hin, z1, A, B, z3, by rw [eA, eB, (hen _ z1).2]; exact z4, by rw [eA, eB]; exact z5, z6⟩
