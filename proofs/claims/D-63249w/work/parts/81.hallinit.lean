set_option maxRecDepth 100000
/-! ===== new KeyHall ===== -/
/-- a step of the constructor: x gets the field f := A -/
def Sg (x : Nat) (m m' : Mem) (f : Int) (A : Nat) : Prop := (∀ a, a < sz_ m → a ≠ x → Sm m m' a) ∧ (kd_ m' x = kd_ m x ∧ (∀ i, iv_ m' x i = iv_ m x i) ∧ ∀ i, rv_ m' x i = if i = f then A else rv_ m x i)
theorem Sg.of {x : Nat} {m m1 : Mem} {f : Int} {A : Nat} (hs : ∀ a, a < sz_ m → Sm m m1 a) (hx : x < sz_ m) : Sg x m (wR_ m1 x f A) f A := by
  have sx := hs x hx
  refine ⟨fun a ha hn => (hs a ha).tr (Sm.wR hn), by rw [kd_wR]; exact sx.1, fun i => by rw [iv_wR]; exact sx.2.2.1 i, fun i => ?_⟩
  rw [rv_wR]
  by_cases z : i = f
  · rw [if_pos ⟨rfl, z⟩, if_pos z]
  · rw [if_neg (fun y => z y.2), if_neg z]; exact sx.2.2.2 i
theorem sg_obj {x : Nat} {m : Mem} {f n : Int} {K : Nat} (hx : x < sz_ m) : Sg x m (wR_ (al_ m K n) x f (sz_ m)) f (sz_ m) ∧ (kd_ (wR_ (al_ m K n) x f (sz_ m)) (sz_ m) = K ∧ ln_ (wR_ (al_ m K n) x f (sz_ m)) (sz_ m) = n ∧ (∀ i, iv_ (wR_ (al_ m K n) x f (sz_ m)) (sz_ m) i = 0) ∧ ∀ i, rv_ (wR_ (al_ m K n) x f (sz_ m)) (sz_ m) i = 0) ∧ sz_ (wR_ (al_ m K n) x f (sz_ m)) = sz_ m + 1 := by
  refine ⟨Sg.of (fun a ha => Sm.al (by omega)) hx, ⟨by rw [kd_wR, kd_al, if_pos rfl], by rw [ln_wR, ln_al, if_pos rfl], fun i => by rw [iv_wR, iv_al, if_pos rfl], fun i => ?_⟩, rfl⟩
  rw [rv_wR, if_neg (by omega), rv_al, if_pos rfl]
theorem sg_key {x : Nat} {m : Mem} {f : Int} (hx : x < sz_ m) : Sg x m (wR_ (nky m 2) x f (sz_ m)) f (sz_ m) ∧ HK (wR_ (nky m 2) x f (sz_ m)) (sz_ m) [] ∧ sz_ (wR_ (nky m 2) x f (sz_ m)) = sz_ m + 2 := by
  obtain ⟨⟨k1, k2, k3, k4⟩, n2, n3, n4, n5, n6⟩ := nky_facts (u := m) (K := 2) (Or.inl rfl)
  have s1 : Sm (nky m 2) (wR_ (nky m 2) x f (sz_ m)) (sz_ m) := Sm.wR (by omega)
  have s2 : Sm (nky m 2) (wR_ (nky m 2) x f (sz_ m)) (sz_ m + 1) := Sm.wR (by omega)
  refine ⟨Sg.of (fun a ha => n5.2 a ha (fun z => z)) hx, ⟨⟨by unfold isK_ at k1 ⊢; rw [s1.1]; exact k1, by rw [s1.2.2.2]; exact k2, by rw [s2.1]; exact k3, by rw [s2.2.1]; exact k4, by rw [s1.2.2.1, n3]; decide, by rw [s1.2.2.1, n3]; decide, fun i _ _ => by rw [s2.2.2.1, n4]; decide⟩, by rw [s1.1]; exact n6, ?_⟩, n2⟩
  unfold tx
  rw [s1.2.2.1, n3]
  rfl
/-- a view is made and put into the array -/
def Sv (x : Nat) (m m' : Mem) (j : Int) (t : Nat) : Prop := (∀ a, a < sz_ m → a ≠ x + 3 → Sm m m' a) ∧ (kd_ m' (x + 3) = kd_ m (x + 3) ∧ ln_ m' (x + 3) = ln_ m (x + 3) ∧ ∀ i, rv_ m' (x + 3) i = if i = j then sz_ m else rv_ m (x + 3) i) ∧ (kd_ m' (sz_ m) = 11 ∧ (∀ i, iv_ m' (sz_ m) i = 0) ∧ ∀ i, rv_ m' (sz_ m) i = if i = 0 then t else 0)
theorem Sv.of {x : Nat} {m m1 : Mem} {j : Int} {t : Nat} (hs : ∀ a, a < sz_ m → Sm m m1 a) (hA : kd_ m1 (sz_ m) = 11 ∧ (∀ i, iv_ m1 (sz_ m) i = 0) ∧ ∀ i, rv_ m1 (sz_ m) i = 0) (hx : x + 3 < sz_ m) : Sv x m (wR_ (wR_ m1 (sz_ m) 0 t) (x + 3) j (sz_ m)) j t := by
  have s3 := hs (x + 3) hx
  refine ⟨fun a ha hn => ((hs a ha).tr (Sm.wR (by omega))).tr (Sm.wR hn), ⟨by rw [kd_wR, kd_wR]; exact s3.1, by rw [ln_wR, ln_wR]; exact s3.2.1, fun i => ?_⟩, by rw [kd_wR, kd_wR]; exact hA.1, fun i => by rw [iv_wR, iv_wR]; exact hA.2.1 i, fun i => ?_⟩
  · rw [rv_wR]
    by_cases z : i = j
    · rw [if_pos ⟨rfl, z⟩, if_pos z]
    · rw [if_neg (fun y => z y.2), if_neg z, rv_wR, if_neg (by omega)]; exact s3.2.2.2 i
  · rw [rv_wR, if_neg (by omega), rv_wR]
    by_cases z : i = 0
    · rw [if_pos ⟨rfl, z⟩, if_pos z]
    · rw [if_neg (fun y => z y.2), if_neg z]; exact hA.2.2 i
/-- the views of the beginning -/
def VL0 : List VS := [(0, (fun _ => True), 0, 0, 0, none, 0), (1, (fun _ => True), 0, 0, 0, none, 0), (2, (fun _ => True), 0, 0, 0, none, 0)]
/-- the hall but for the cells of the model -/
def HS0 (u : Mem) (x : Nat) : Prop := HF u x 3 ∧ HK u (x + 1) [] ∧ HK u (x + 13) [] ∧ HK u (x + 28) [] ∧ HT u x (fun _ => []) (fun _ => []) (fun _ => 0) ∧ HV u x (fun _ => []) (fun _ => 0) VL0 ∧ HA u x [] ∧ HX u x [] []
theorem HS0.fin {u v : Mem} {x : Nat} (h : HS0 u x) (hw : Wf u) (hz : sz_ u = x + 34) (hs : ∀ a, a < sz_ u → Sm u v a) (hv : x + 64 ≤ sz_ v) (hk : ∀ a, x + 34 ≤ a → a < x + 64 → kd_ v a = 13 ∨ kd_ v a = 100 ∨ kd_ v a = 102 ∨ kd_ v a = 104) : HS v x [] [] (fun _ => []) (fun _ => 0) VL0 [] [] [] := by
  obtain ⟨h1, h2, h3, h4, h5, h6, h7, h8⟩ := h
  have hK : Kp_ x u v := ⟨by omega, fun a ha => ⟨(hs a ha).1, (hs a ha).2.1⟩, fun a ha _ _ => hs a ha⟩
  have sx : ∀ a, a < x + 34 → Sm u v a := fun a ha => hs a (by omega)
  refine ⟨⟨hv, fun i _ => ⟨Nat.zero_le _, by show rng 0; unfold rng; omega⟩, hk⟩, h1.same (sx _ (by omega)) ⟨(sx _ (by omega)).1, (sx _ (by omega)).2.1⟩, h2.same (sx _ (by omega)) (sx _ (by omega)), h3.same (sx _ (by omega)) (sx _ (by omega)), ⟨[], h4.same (sx _ (by omega)) (sx _ (by omega))⟩, ⟨fun _ => [], h5.same hw hK (fun i hi => ?_) (fun i a _ ha _ => hs a ha), h6.same hw hK (sx _ (by omega)) (fun a ha _ => hs a ha) (fun _ => Int.le_refl _) (fun vs _ a _ _ z => ⟨z, fun y => y⟩)⟩, h7.same (fun a q1 q2 => sx a (by omega)), h8.same hw hK (fun a ha _ => hs a ha) (fun a q1 q2 => sx a (by omega))⟩
  have := tA_3 x i
  have s := sx (tA x i) (by omega)
  exact ⟨s.2.2.2, s.2.2.1 0, s.2.2.1 1⟩
theorem AX.sm {u v : Mem} {x : Nat} (h : AX u (x + 15) (x + 16) (x + 17) (x + 18) (x + 19) (x + 20) (x + 21)) (h0 : kd_ v (x + 15) = kd_ u (x + 15) ∧ ∀ i, rv_ v (x + 15) i = rv_ u (x + 15) i) (hs : ∀ a, x + 16 ≤ a → a < x + 22 → Sm u v a) : AX v (x + 15) (x + 16) (x + 17) (x + 18) (x + 19) (x + 20) (x + 21) := by
  unfold AX at h ⊢
  have s1 := hs (x + 16) (by omega) (by omega)
  have s2 := hs (x + 17) (by omega) (by omega)
  have s3 := hs (x + 18) (by omega) (by omega)
  have s4 := hs (x + 19) (by omega) (by omega)
  have s5 := hs (x + 20) (by omega) (by omega)
  have s6 := hs (x + 21) (by omega) (by omega)
  simp only [h0.1, h0.2, s1.1, s1.2.1, s2.1, s2.2.1, s3.1, s3.2.1, s4.1, s4.2.1, s5.1, s5.2.1, s6.1, s6.2.1]
  exact h
theorem SX.sm {u v : Mem} {x : Nat} (h : SX u (x + 22) (x + 23) (x + 24) (x + 25) (x + 26) (x + 27)) (hs : ∀ a, x + 22 ≤ a → a < x + 28 → Sm u v a) : SX v (x + 22) (x + 23) (x + 24) (x + 25) (x + 26) (x + 27) := by
  unfold SX at h ⊢
  have s0 := hs (x + 22) (by omega) (by omega)
  have s1 := hs (x + 23) (by omega) (by omega)
  have s2 := hs (x + 24) (by omega) (by omega)
  have s3 := hs (x + 25) (by omega) (by omega)
  have s4 := hs (x + 26) (by omega) (by omega)
  have s5 := hs (x + 27) (by omega) (by omega)
  simp only [s0.1, s0.2.2.2, s1.1, s1.2.1, s2.1, s2.2.1, s3.1, s3.2.1, s4.1, s4.2.1, s5.1, s5.2.1]
  exact h
theorem hi_HV {F : Mem} {x : Nat} (r3F : rv_ F (x + 3) 0 = x + 30 ∧ rv_ F (x + 3) 1 = x + 31 ∧ rv_ F (x + 3) 2 = x + 32) (V0 : kd_ F (x + 30) = 11 ∧ (∀ i, iv_ F (x + 30) i = 0) ∧ ∀ i, rv_ F (x + 30) i = if i = 0 then x + 4 else 0) (V1 : kd_ F (x + 31) = 11 ∧ (∀ i, iv_ F (x + 31) i = 0) ∧ ∀ i, rv_ F (x + 31) i = if i = 0 then x + 5 else 0) (V2 : kd_ F (x + 32) = 11 ∧ (∀ i, iv_ F (x + 32) i = 0) ∧ ∀ i, rv_ F (x + 32) i = if i = 0 then x + 33 else 0) : HV F x (fun _ => []) (fun _ => 0) VL0 := by
  have hv1 : ∀ (A i : Nat), i < 3 → x + 30 ≤ A → A < x + 33 → kd_ F A = 11 → (∀ i, iv_ F A i = 0) → (∀ k, rv_ F A k = if k = 0 then tA x i else 0) → HV1 F x (fun _ => []) (fun _ => 0) A (i, (fun _ => True), 0, 0, 0, none, 0) := fun A i hi a1 a2 a3 a4 a5 => by
    have r0 : rv_ F A 0 = tA x i := by rw [a5, if_pos rfl]
    have r1 : rv_ F A 1 = 0 := by rw [a5, if_neg (by decide)]
    have r2 : rv_ F A 2 = 0 := by rw [a5, if_neg (by decide)]
    have r6 : rv_ F A 6 = 0 := by rw [a5, if_neg (by decide)]
    exact ⟨Or.inl ⟨a1, a2⟩, hi, ⟨none, none, ⟨a3, r0, Or.inl ⟨r1, rfl⟩, Or.inl ⟨r2, rfl⟩⟩, fun s _ => ⟨fun _ => trivial, fun _ => ⟨fun a h => absurd h (by simp), fun a h => absurd h (by simp)⟩⟩⟩, Or.inl r1, Or.inl r2, ⟨a4 3, Or.inl rfl⟩, ⟨a4 4, Or.inl rfl⟩, ⟨a4 5, by show rng 0; unfold rng; omega⟩, Or.inl ⟨r6, rfl⟩, ⟨a4 7, Or.inl rfl⟩, fun z => absurd (show (0 : Int) = 1 from z) (by decide), fun z => absurd (show (0 : Int) = 1 from z) (by decide)⟩
  refine ⟨fun j vs hj => ?_, fun j k hj hk e => ?_⟩
  · rcases j with _ | _ | _ | j
    · cases hj
      show HV1 F x _ _ (rv_ F (x + 3) 0) _
      rw [r3F.1]
      exact hv1 (x + 30) 0 (by decide) (by omega) (by omega) V0.1 V0.2.1 V0.2.2
    · cases hj
      show HV1 F x _ _ (rv_ F (x + 3) 1) _
      rw [r3F.2.1]
      exact hv1 (x + 31) 1 (by decide) (by omega) (by omega) V1.1 V1.2.1 V1.2.2
    · cases hj
      show HV1 F x _ _ (rv_ F (x + 3) 2) _
      rw [r3F.2.2]
      exact hv1 (x + 32) 2 (by decide) (by omega) (by omega) V2.1 V2.2.1 V2.2.2
    · simp [VL0] at hj
  · have hj : j < 3 := hj
    have hk : k < 3 := hk
    obtain ⟨q0, q1, q2⟩ := r3F
    have q0 : rv_ F (x + 3) ((0 : Nat) : Int) = x + 30 := q0
    have q1 : rv_ F (x + 3) ((1 : Nat) : Int) = x + 31 := q1
    have q2 : rv_ F (x + 3) ((2 : Nat) : Int) = x + 32 := q2
    clear V0 V1 V2 hv1
    have hj3 : j = 0 ∨ j = 1 ∨ j = 2 := by omega
    have hk3 : k = 0 ∨ k = 1 ∨ k = 2 := by omega
    rcases hj3 with z | z | z <;> rcases hk3 with y | y | y <;> rw [z, y] at e <;> rw [z, y] <;> first | rfl | (exfalso; simp only [q0, q1, q2] at e; omega)
theorem hi_HT {m9 F : Mem} {x : Nat} (sG : ∀ a, a < x + 30 → a ≠ x + 3 → a ≠ x + 15 → Sm m9 F a) (l10 : sz_ m9 = x + 30) (T2 : kd_ m9 (x + 3) = 106) (T7 : kd_ m9 (x + 15) = 9) (T4 : kd_ m9 (x + 4) = 4 ∧ (∀ i, iv_ m9 (x + 4) i = 0) ∧ ∀ i, rv_ m9 (x + 4) i = 0) (T5 : TP (hG x) m9 (x + 5) [] ∧ kd_ m9 (x + 5) = 5 ∧ iv_ m9 (x + 5) 0 = 0 ∧ iv_ m9 (x + 5) 1 = 0) (T9 : kd_ F (x + 33) = 12 ∧ (∀ i, iv_ F (x + 33) i = 0) ∧ ∀ i, rv_ F (x + 33) i = 0) (hw9 : Wf m9) : HT F x (fun _ => []) (fun _ => []) (fun _ => 0) := by
  have s4 := sG (x + 4) (by omega) (by omega) (by omega)
  have s5 := sG (x + 5) (by omega) (by omega) (by omega)
  have k4 : kd_ F (x + 4) = 4 := by rw [s4.1]; exact T4.1
  have k5 : kd_ F (x + 5) = 5 := by rw [s5.1]; exact T5.2.1
  have hy : TP (hG x) F (x + 5) [] := TP.frame (u := m9) T5.1 hw9 s5.1 s5.2.2.2 (fun a ha hsc => sG a (by omega) (fun z => by rw [z, T2] at hsc; unfold Sc K5 at hsc; omega) (fun z => by rw [z, T7] at hsc; unfold Sc K5 at hsc; omega)) (fun e he => by simp at he)
  have hb : TP (hG x) F (x + 4) [] := Or.inl ⟨k4, BT.new k4 (fun i => by rw [s4.2.2.2]; exact T4.2.2 i)⟩
  have hc : TP (hG x) F (x + 33) [] := Or.inr (Or.inr ⟨T9.1, CT.new T9.1 T9.2.2⟩)
  refine ⟨⟨k4, k5, T9.1⟩, fun i hi => ?_, fun i j _ _ _ e he => by simp at he⟩
  have hi3 : i = 0 ∨ i = 1 ∨ i = 2 := by omega
  rcases hi3 with rfl | rfl | rfl
  · exact ⟨hb, by show iv_ F (x + 4) 0 = 0; rw [s4.2.2.1]; exact T4.2.1 0, by show iv_ F (x + 4) 1 = 0; rw [s4.2.2.1]; exact T4.2.1 1, List.nodup_nil, rfl, fun e he => by simp at he⟩
  · exact ⟨hy, by show iv_ F (x + 5) 0 = 0; rw [s5.2.2.1]; exact T5.2.2.1, by show iv_ F (x + 5) 1 = 0; rw [s5.2.2.1]; exact T5.2.2.2, List.nodup_nil, rfl, fun e he => by simp at he⟩
  · exact ⟨hc, T9.2.1 0, T9.2.1 1, List.nodup_nil, rfl, fun e he => by simp at he⟩
theorem hi_HX {m9 F : Mem} {x : Nat} (hs : ∀ a, x + 22 ≤ a → a < x + 28 → Sm m9 F a) (T8 : SX m9 (x + 22) (x + 23) (x + 24) (x + 25) (x + 26) (x + 27) ∧ rv_ m9 (x + 22) 0 = 0 ∧ ∀ i, iv_ m9 (x + 22) i = 0) : HX F x [] [] := by
  have s22 := hs (x + 22) (by omega) (by omega)
  exact ⟨⟨T8.1.sm hs, by rw [s22.2.2.2, T8.2.1]; exact Or.inl ⟨rfl, rfl⟩, by decide, fun j O hj => by simp at hj, by rw [s22.2.2.1]; exact T8.2.2 2, by decide, fun O hO => by simp at hO⟩, Or.inl (by rw [s22.2.2.1]; exact T8.2.2 7)⟩
theorem hi_V {m9 n1 n2 n3 F : Mem} {x : Nat} (l10 : sz_ m9 = x + 30) (g1 : Sv x m9 n1 0 (x + 4)) (z1 : sz_ n1 = x + 31) (g2 : Sv x n1 n2 1 (x + 5)) (z2 : sz_ n2 = x + 32) (g3 : Sv x n2 n3 2 (x + 33)) (sF : ∀ a, a ≠ x + 15 → Sm n3 F a) : HV F x (fun _ => []) (fun _ => 0) VL0 ∧ (kd_ F (x + 3) = kd_ m9 (x + 3) ∧ ln_ F (x + 3) = ln_ m9 (x + 3)) := by
  have q1 := g1.2.2
  have q2 := g2.2.2
  have q3 := g3.2.2
  have p1 := g1.2.1
  have p2 := g2.2.1
  have p3 := g3.2.1
  rw [l10] at q1 p1
  rw [z1] at q2 p2
  rw [z2] at q3 p3
  have s3 := sF (x + 3) (by omega)
  have a0 := ((g2.1 (x + 30) (by omega) (by omega)).tr (g3.1 (x + 30) (by omega) (by omega))).tr (sF _ (by omega))
  have a1 := (g3.1 (x + 31) (by omega) (by omega)).tr (sF _ (by omega))
  have a2 := sF (x + 32) (by omega)
  refine ⟨hi_HV ⟨?_, ?_, ?_⟩ ⟨by rw [a0.1]; exact q1.1, fun i => by rw [a0.2.2.1]; exact q1.2.1 i, fun i => by rw [a0.2.2.2]; exact q1.2.2 i⟩ ⟨by rw [a1.1]; exact q2.1, fun i => by rw [a1.2.2.1]; exact q2.2.1 i, fun i => by rw [a1.2.2.2]; exact q2.2.2 i⟩ ⟨by rw [a2.1]; exact q3.1, fun i => by rw [a2.2.2.1]; exact q3.2.1 i, fun i => by rw [a2.2.2.2]; exact q3.2.2 i⟩, by rw [s3.1, p3.1, p2.1, p1.1], by rw [s3.2.1, p3.2.1, p2.2.1, p1.2.1]⟩
  · rw [s3.2.2.2, p3.2.2, if_neg (by decide), p2.2.2, if_neg (by decide), p1.2.2, if_pos rfl]
  · rw [s3.2.2.2, p3.2.2, if_neg (by decide), p2.2.2, if_pos rfl]
  · rw [s3.2.2.2, p3.2.2, if_pos rfl]
theorem hinit_fin {u m9 n1 n2 n3 F : Mem} {x : Nat} (k9 : kd_ m9 x = 1) (l10 : sz_ m9 = x + 30) (X9 : rv_ m9 x 0 = x + 1 ∧ rv_ m9 x 1 = x + 3 ∧ iv_ m9 x 2 = 3 ∧ rv_ m9 x 3 = x + 4 ∧ rv_ m9 x 4 = x + 5 ∧ rv_ m9 x 5 = x + 13 ∧ rv_ m9 x 6 = x + 15 ∧ rv_ m9 x 7 = x + 22 ∧ rv_ m9 x 8 = x + 28) (S0 : ∀ a, a < x → Sm u m9 a) (T1 : HK m9 (x + 1) []) (T6 : HK m9 (x + 13) []) (hk9 : HK m9 (x + 28) []) (T2 : kd_ m9 (x + 3) = 106 ∧ ln_ m9 (x + 3) = 12) (T4 : kd_ m9 (x + 4) = 4 ∧ (∀ i, iv_ m9 (x + 4) i = 0) ∧ ∀ i, rv_ m9 (x + 4) i = 0) (T5 : TP (hG x) m9 (x + 5) [] ∧ kd_ m9 (x + 5) = 5 ∧ iv_ m9 (x + 5) 0 = 0 ∧ iv_ m9 (x + 5) 1 = 0) (T7 : AX m9 (x + 15) (x + 16) (x + 17) (x + 18) (x + 19) (x + 20) (x + 21)) (T8 : SX m9 (x + 22) (x + 23) (x + 24) (x + 25) (x + 26) (x + 27) ∧ rv_ m9 (x + 22) 0 = 0 ∧ ∀ i, iv_ m9 (x + 22) i = 0) (hw9 : Wf m9) (g1 : Sv x m9 n1 0 (x + 4)) (z1 : sz_ n1 = x + 31) (g2 : Sv x n1 n2 1 (x + 5)) (z2 : sz_ n2 = x + 32) (g3 : Sv x n2 n3 2 (x + 33)) (z3 : sz_ n3 = x + 34) (T9 : kd_ n3 (x + 33) = 12 ∧ (∀ i, iv_ n3 (x + 33) i = 0) ∧ ∀ i, rv_ n3 (x + 33) i = 0) (hab : F = wI_ (wI_ (wI_ (wI_ n3 (x + 15) 5 0) (x + 15) 6 0) (x + 15) 9 0) (x + 15) 7 (-1)) : HS0 F x ∧ sz_ F = x + 34 ∧ ∀ a, a < x → Sm u F a := by
  obtain ⟨x0, x1, x2, x3, x4, x5, x6, x7, x8⟩ := X9
  have sF : ∀ a, a ≠ x + 15 → Sm n3 F a := fun a ha => by rw [hab]; exact (((Sm.wI ha).tr (Sm.wI ha)).tr (Sm.wI ha)).tr (Sm.wI ha)
  have sm : ∀ a, a < x + 30 → a ≠ x + 3 → Sm m9 n3 a := fun a ha hn => ((g1.1 a (by omega) hn).tr (g2.1 a (by omega) hn)).tr (g3.1 a (by omega) hn)
  have s15 := sm (x + 15) (by omega) (by omega)
  have sG : ∀ a, a < x + 30 → a ≠ x + 3 → a ≠ x + 15 → Sm m9 F a := fun a ha h1 h2 => (sm a ha h1).tr (sF a h2)
  have kF : kd_ F (x + 15) = kd_ m9 (x + 15) ∧ ∀ i, rv_ F (x + 15) i = rv_ m9 (x + 15) i := ⟨by rw [hab]; exact s15.1, fun i => by rw [hab]; exact s15.2.2.2 i⟩
  have zF : sz_ F = x + 34 := by rw [hab]; exact z3
  have i7 : iv_ F (x + 15) 7 = -1 := by rw [hab, iv_wI, if_pos ⟨rfl, rfl⟩]
  have i9 : iv_ F (x + 15) 9 = 0 := by rw [hab, iv_wI, if_neg (fun z => absurd z.2 (by decide)), iv_wI, if_pos ⟨rfl, rfl⟩]
  obtain ⟨hV, h3⟩ := hi_V l10 g1 z1 g2 z2 g3 sF
  have s33 := sF (x + 33) (by omega)
  clear g1 g2 g3 hab z1 z2 z3
  have hA : HA F x [] := ⟨T7.sm kF (fun a q1 q2 => sG a (by omega) (by omega) (by omega)), Or.inl ⟨rfl, i7, i9⟩, Nat.zero_le _⟩
  have hX : HX F x [] [] := hi_HX (fun a q1 q2 => sG a (by omega) (by omega) (by omega)) T8
  have hT : HT F x (fun _ => []) (fun _ => []) (fun _ => 0) := hi_HT sG l10 T2.1 T7.1.1 T4 T5 ⟨by rw [s33.1]; exact T9.1, fun i => by rw [s33.2.2.1]; exact T9.2.1 i, fun i => by rw [s33.2.2.2]; exact T9.2.2 i⟩ hw9
  have sx := sG x (by omega) (by omega) (by omega)
  have hF3 : HF F x 3 := ⟨by rw [sx.1]; exact k9, by rw [sx.2.2.2]; exact x0, by rw [sx.2.2.2]; exact x1, by rw [sx.2.2.1]; exact x2, by rw [sx.2.2.2]; exact x3, by rw [sx.2.2.2]; exact x4, by rw [sx.2.2.2]; exact x5, by rw [sx.2.2.2]; exact x6, by rw [sx.2.2.2]; exact x7, by rw [sx.2.2.2]; exact x8, by rw [h3.1]; exact T2.1, by rw [h3.2]; exact T2.2, by decide⟩
  clear x0 x1 x2 x3 x4 x5 x6 x7 x8 T2 T4 T5 T7 T8 T9 i7 i9
  exact ⟨⟨hF3, T1.same (sG _ (by omega) (by omega) (by omega)) (sG _ (by omega) (by omega) (by omega)), T6.same (sG _ (by omega) (by omega) (by omega)) (sG _ (by omega) (by omega) (by omega)), hk9.same (sG _ (by omega) (by omega) (by omega)) (sG _ (by omega) (by omega) (by omega)), hT, hV, hA, hX⟩, zF, fun a ha => (S0 a ha).tr (sG a (by omega) (by omega) (by omega))⟩
theorem hinit_tail {X : Ctx_} {u m9 : Mem} {x : Nat} (ho : Ok_ X yX1_init.cls cX1_init none 6 40 4000 (qV fun v => HS0 v x ∧ sz_ v = x + 34 ∧ ∀ a, a < x → Sm u v a)) (hN : Nl_ X 1) (hin : In_ X) (k9 : kd_ m9 x = 1) (l10 : sz_ m9 = x + 30) (X9 : rv_ m9 x 0 = x + 1 ∧ rv_ m9 x 1 = x + 3 ∧ iv_ m9 x 2 = 3 ∧ rv_ m9 x 3 = x + 4 ∧ rv_ m9 x 4 = x + 5 ∧ rv_ m9 x 5 = x + 13 ∧ rv_ m9 x 6 = x + 15 ∧ rv_ m9 x 7 = x + 22 ∧ rv_ m9 x 8 = x + 28) (S0 : ∀ a, a < x → Sm u m9 a) (T1 : HK m9 (x + 1) []) (T6 : HK m9 (x + 13) []) (hk9 : HK m9 (x + 28) []) (T2 : kd_ m9 (x + 3) = 106 ∧ ln_ m9 (x + 3) = 12) (T4 : kd_ m9 (x + 4) = 4 ∧ (∀ i, iv_ m9 (x + 4) i = 0) ∧ ∀ i, rv_ m9 (x + 4) i = 0) (T5 : TP (hG x) m9 (x + 5) [] ∧ kd_ m9 (x + 5) = 5 ∧ iv_ m9 (x + 5) 0 = 0 ∧ iv_ m9 (x + 5) 1 = 0) (T7 : AX m9 (x + 15) (x + 16) (x + 17) (x + 18) (x + 19) (x + 20) (x + 21)) (T8 : SX m9 (x + 22) (x + 23) (x + 24) (x + 25) (x + 26) (x + 27) ∧ rv_ m9 (x + 22) 0 = 0 ∧ ∀ i, iv_ m9 (x + 22) i = 0) (hw9 : Wf m9) : Z X 95 [some (aR x)] [] m9 30 3800 := by
  have X9' := X9
  obtain ⟨x0, x1, x2, x3, x4, x5, x6, x7, x8⟩ := X9
  have al0 : ∀ m : Mem, kd_ (al_ m 11 0) (sz_ m) = 11 ∧ (∀ i, iv_ (al_ m 11 0) (sz_ m) i = 0) ∧ ∀ i, rv_ (al_ m 11 0) (sz_ m) i = 0 := fun m => ⟨by rw [kd_al, if_pos rfl], fun i => by rw [iv_al, if_pos rfl], fun i => by rw [rv_al, if_pos rfl]⟩
  -- the views
  refine z_aload_n ho dX1_init_95 rfl ?_
  refine gX1_18 ho dX1_init_96 k9 ?_
  rw [x1]
  refine z_iconst ho dX1_init_99 ?_
  refine nX1_16 ho dX1_init_100 (Nat.le_of_ble_eq_true rfl) (Nat.le_of_ble_eq_true rfl) ?_
  refine z_dup ho dX1_init_103 rfl ?_
  refine z_aload_n ho dX1_init_104 rfl ?_
  refine gX1_29 ho dX1_init_105 (by rw [kd_al, if_neg (by omega)]; exact k9) ?_
  rw [rv_al, if_neg (by omega), x3]
  refine kX1_60 ho hN (c_View_init _ _ (al0 m9).1) dX1_init_108 (by omega) (Nat.le_of_ble_eq_true rfl) (Nat.le_of_ble_eq_true rfl) (Nat.le_of_ble_eq_true rfl) (Nat.le_of_ble_eq_true rfl) (fun u108 h108 => ?_)
  obtain rfl := h108
  refine z_aast ho dX1_init_111 (Or.inr (Or.inl ⟨rfl, rfl, rfl⟩)) (by rw [kd_wR, kd_al, if_neg (by omega)]; exact T2.1) (by omega) (by rw [ln_wR, ln_al, if_neg (by omega), T2.2]; omega) (Or.inr (by rw [kd_wR]; exact (al0 m9).1)) ?_
  have g1 : Sv x m9 (wR_ (wR_ (al_ m9 11 0) (sz_ m9) 0 (x + 4)) (x + 3) 0 (sz_ m9)) 0 (x + 4) := Sv.of (fun a ha => Sm.al (by omega)) (al0 m9) (by omega)
  have z1 : sz_ (wR_ (wR_ (al_ m9 11 0) (sz_ m9) 0 (x + 4)) (x + 3) 0 (sz_ m9)) = x + 31 := by show sz_ m9 + 1 = _; omega
  generalize wR_ (wR_ (al_ m9 11 0) (sz_ m9) 0 (x + 4)) (x + 3) 0 (sz_ m9) = n1 at *
  have sx1 := g1.1 x (by omega) (by omega)
  have kn1 : kd_ n1 x = 1 := by rw [sx1.1]; exact k9
  refine z_aload_n ho dX1_init_112 rfl ?_
  refine gX1_18 ho dX1_init_113 kn1 ?_
  rw [sx1.2.2.2, x1]
  refine z_iconst ho dX1_init_116 ?_
  refine nX1_16 ho dX1_init_117 (Nat.le_of_ble_eq_true rfl) (Nat.le_of_ble_eq_true rfl) ?_
  refine z_dup ho dX1_init_120 rfl ?_
  refine z_aload_n ho dX1_init_121 rfl ?_
  refine gX1_36 ho dX1_init_122 (by rw [kd_al, if_neg (by omega)]; exact kn1) ?_
  rw [rv_al, if_neg (by omega), sx1.2.2.2, x4]
  refine kX1_60 ho hN (c_View_init _ _ (al0 n1).1) dX1_init_125 (by omega) (Nat.le_of_ble_eq_true rfl) (Nat.le_of_ble_eq_true rfl) (Nat.le_of_ble_eq_true rfl) (Nat.le_of_ble_eq_true rfl) (fun u125 h125 => ?_)
  obtain rfl := h125
  refine z_aast ho dX1_init_128 (Or.inr (Or.inl ⟨rfl, rfl, rfl⟩)) (by rw [kd_wR, kd_al, if_neg (by omega), g1.2.1.1]; exact T2.1) (by omega) (by rw [ln_wR, ln_al, if_neg (by omega), g1.2.1.2.1, T2.2]; omega) (Or.inr (by rw [kd_wR]; exact (al0 n1).1)) ?_
  have g2 : Sv x n1 (wR_ (wR_ (al_ n1 11 0) (sz_ n1) 0 (x + 5)) (x + 3) 1 (sz_ n1)) 1 (x + 5) := Sv.of (fun a ha => Sm.al (by omega)) (al0 n1) (by omega)
  have z2 : sz_ (wR_ (wR_ (al_ n1 11 0) (sz_ n1) 0 (x + 5)) (x + 3) 1 (sz_ n1)) = x + 32 := by show sz_ n1 + 1 = _; omega
  generalize wR_ (wR_ (al_ n1 11 0) (sz_ n1) 0 (x + 5)) (x + 3) 1 (sz_ n1) = n2 at *
  have sx2 := sx1.tr (g2.1 x (by omega) (by omega))
  have kn2 : kd_ n2 x = 1 := by rw [sx2.1]; exact k9
  have zz : sz_ (al_ n2 11 0) = x + 33 := by rw [sz_al]; omega
  have alA : kd_ (al_ (al_ n2 11 0) 12 0) (sz_ n2) = 11 ∧ (∀ i, iv_ (al_ (al_ n2 11 0) 12 0) (sz_ n2) i = 0) ∧ ∀ i, rv_ (al_ (al_ n2 11 0) 12 0) (sz_ n2) i = 0 := by
    obtain ⟨q1, q2, q3⟩ := al0 n2
    exact ⟨by rw [kd_al, if_neg (by omega)]; exact q1, fun i => by rw [iv_al, if_neg (by omega)]; exact q2 i, fun i => by rw [rv_al, if_neg (by omega)]; exact q3 i⟩
  refine z_aload_n ho dX1_init_129 rfl ?_
  refine gX1_18 ho dX1_init_130 kn2 ?_
  rw [sx2.2.2.2, x1]
  refine z_iconst ho dX1_init_133 ?_
  refine nX1_16 ho dX1_init_134 (Nat.le_of_ble_eq_true rfl) (Nat.le_of_ble_eq_true rfl) ?_
  refine z_dup ho dX1_init_137 rfl ?_
  refine nX1_63 ho dX1_init_138 (Nat.le_of_ble_eq_true rfl) (Nat.le_of_ble_eq_true rfl) ?_
  refine z_dup ho dX1_init_141 rfl ?_
  refine kX1_65 ho hN (c_X12_init _ _ (by omega)) dX1_init_142 (by omega) (Nat.le_of_ble_eq_true rfl) (Nat.le_of_ble_eq_true rfl) (Nat.le_of_ble_eq_true rfl) (Nat.le_of_ble_eq_true rfl) (fun u142 h142 => ?_)
  obtain rfl := h142
  refine kX1_60 ho hN (c_View_init _ _ alA.1) dX1_init_145 (by omega) (Nat.le_of_ble_eq_true rfl) (Nat.le_of_ble_eq_true rfl) (Nat.le_of_ble_eq_true rfl) (Nat.le_of_ble_eq_true rfl) (fun u145 h145 => ?_)
  obtain rfl := h145
  refine z_aast ho dX1_init_148 (Or.inr (Or.inl ⟨rfl, rfl, rfl⟩)) (by rw [kd_wR, kd_al, if_neg (by omega), kd_al, if_neg (by omega), g2.2.1.1, g1.2.1.1]; exact T2.1) (by omega) (by rw [ln_wR, ln_al, if_neg (by omega), ln_al, if_neg (by omega), g2.2.1.2.1, g1.2.1.2.1, T2.2]; omega) (Or.inr (by rw [kd_wR]; exact alA.1)) ?_
  rw [zz]
  have g3 : Sv x n2 (wR_ (wR_ (al_ (al_ n2 11 0) 12 0) (sz_ n2) 0 (x + 33)) (x + 3) 2 (sz_ n2)) 2 (x + 33) := Sv.of (fun a ha => (Sm.al (by omega)).tr (Sm.al (by omega))) alA (by omega)
  have z3 : sz_ (wR_ (wR_ (al_ (al_ n2 11 0) 12 0) (sz_ n2) 0 (x + 33)) (x + 3) 2 (sz_ n2)) = x + 34 := by show sz_ n2 + 1 + 1 = _; omega
  have T9 : kd_ (wR_ (wR_ (al_ (al_ n2 11 0) 12 0) (sz_ n2) 0 (x + 33)) (x + 3) 2 (sz_ n2)) (x + 33) = 12 ∧ (∀ i, iv_ (wR_ (wR_ (al_ (al_ n2 11 0) 12 0) (sz_ n2) 0 (x + 33)) (x + 3) 2 (sz_ n2)) (x + 33) i = 0) ∧ ∀ i, rv_ (wR_ (wR_ (al_ (al_ n2 11 0) 12 0) (sz_ n2) 0 (x + 33)) (x + 3) 2 (sz_ n2)) (x + 33) i = 0 :=
    ⟨by rw [kd_wR, kd_wR, kd_al, if_pos zz.symm], fun i => by rw [iv_wR, iv_wR, iv_al, if_pos zz.symm], fun i => by rw [rv_wR, if_neg (by omega), rv_wR, if_neg (by omega), rv_al, if_pos zz.symm]⟩
  generalize wR_ (wR_ (al_ (al_ n2 11 0) 12 0) (sz_ n2) 0 (x + 33)) (x + 3) 2 (sz_ n2) = n3 at *
  have sm : ∀ a, a < x + 30 → a ≠ x + 3 → Sm m9 n3 a := fun a ha hn => ((g1.1 a (by omega) hn).tr (g2.1 a (by omega) hn)).tr (g3.1 a (by omega) hn)
  have sx3 := sm x (by omega) (by omega)
  have kn3 : kd_ n3 x = 1 := by rw [sx3.1]; exact k9
  have s15 := sm (x + 15) (by omega) (by omega)
  refine z_aload_n ho dX1_init_149 rfl ?_
  refine gX1_46 ho dX1_init_150 kn3 ?_
  rw [sx3.2.2.2, x6]
  refine kX1_66 ho hN (c_abegin _ _ (by rw [s15.1]; exact T7.1.1)) dX1_init_153 (by rw [s15.1]; exact T7.1.1) (Nat.le_of_ble_eq_true rfl) (Nat.le_of_ble_eq_true rfl) (Nat.le_of_ble_eq_true rfl) (Nat.le_of_ble_eq_true rfl) (fun u153 h153 => ?_)
  obtain hab := h153
  refine r_V ho dX1_init_156 (Nat.le_of_ble_eq_true rfl) (Nat.le_of_ble_eq_true rfl) ?_
  exact hinit_fin k9 l10 X9' S0 T1 T6 hk9 T2 T4 T5 T7 T8 hw9 g1 z1 g2 z2 g3 z3 T9 h153
/-- the constructor at 51 -/
def I5 (u m5 : Mem) (x : Nat) : Prop := (kd_ m5 x = 1 ∧ sz_ m5 = x + 13) ∧ (rv_ m5 x 0 = x + 1 ∧ rv_ m5 x 1 = x + 3 ∧ iv_ m5 x 2 = 3 ∧ rv_ m5 x 3 = x + 4 ∧ rv_ m5 x 4 = x + 5) ∧ (∀ a, a < x → Sm u m5 a) ∧ HK m5 (x + 1) [] ∧ (kd_ m5 (x + 3) = 106 ∧ ln_ m5 (x + 3) = 12) ∧ (kd_ m5 (x + 4) = 4 ∧ (∀ i, iv_ m5 (x + 4) i = 0) ∧ ∀ i, rv_ m5 (x + 4) i = 0) ∧ (TP (hG x) m5 (x + 5) [] ∧ kd_ m5 (x + 5) = 5 ∧ iv_ m5 (x + 5) 0 = 0 ∧ iv_ m5 (x + 5) 1 = 0)
def Q8 (m : Mem) (x : Nat) : Prop := SX m (x + 22) (x + 23) (x + 24) (x + 25) (x + 26) (x + 27) ∧ rv_ m (x + 22) 0 = 0 ∧ ∀ i, iv_ m (x + 22) i = 0
theorem I5.go {X : Ctx_} {u m5 m6 m7 m8 m9 : Mem} {x : Nat} (ho : Ok_ X yX1_init.cls cX1_init none 6 40 4000 (qV fun v => HS0 v x ∧ sz_ v = x + 34 ∧ ∀ a, a < x → Sm u v a)) (hN : Nl_ X 1) (hin : In_ X) (h : I5 u m5 x) (hw5 : Wf m5) (l7 : sz_ m6 = x + 15) (l8 : sz_ m7 = x + 22) (l9 : sz_ m8 = x + 28) (l10 : sz_ m9 = x + 30) (f6 : Sg x m5 m6 5 (x + 13)) (f7 : Sg x m6 m7 6 (x + 15)) (f8 : Sg x m7 m8 7 (x + 22)) (f9 : Sg x m8 m9 8 (x + 28)) (hk6 : HK m6 (x + 13) []) (w1 : AX m7 (x + 15) (x + 16) (x + 17) (x + 18) (x + 19) (x + 20) (x + 21)) (T8 : Q8 m8 x) (hk9 : HK m9 (x + 28) []) (hw9 : Wf m9) : Z X 95 [some (aR x)] [] m9 30 3800 := by
  have l6 : sz_ m5 = x + 13 := h.1.2
  have S8 : ∀ a, a < x + 28 → a ≠ x → Sm m8 m9 a := fun a ha hn => f9.1 a (by omega) hn
  have S7 : ∀ a, a < x + 22 → a ≠ x → Sm m7 m9 a := fun a ha hn => (f8.1 a (by omega) hn).tr (S8 a (by omega) hn)
  have S6 : ∀ a, a < x + 15 → a ≠ x → Sm m6 m9 a := fun a ha hn => (f7.1 a (by omega) hn).tr (S7 a (by omega) hn)
  have S5 : ∀ a, a < x + 13 → a ≠ x → Sm m5 m9 a := fun a ha hn => (f6.1 a (by omega) hn).tr (S6 a (by omega) hn)
  have hlt : ∀ a, a < sz_ m5 → a < x + 13 := fun a ha => by omega
  clear l7 l8 l9 l6
  have s5 := S5 (x + 5) (by omega) (by omega)
  have s4 := S5 (x + 4) (by omega) (by omega)
  have s3 := S5 (x + 3) (by omega) (by omega)
  have s15 := S7 (x + 15) (by omega) (by omega)
  have s22 := S8 (x + 22) (by omega) (by omega)
  have hA := w1.sm ⟨s15.1, s15.2.2.2⟩ (fun a q1 q2 => S7 a (by omega) (by omega))
  have hX := T8.1.sm (fun a q1 q2 => S8 a (by omega) (by omega))
  have h6 := hk6.same (S6 _ (by omega) (by omega)) (S6 _ (by omega) (by omega))
  have h1 := h.2.2.2.1.same (S5 _ (by omega) (by omega)) (S5 _ (by omega) (by omega))
  have S0 : ∀ a, a < x → Sm u m9 a := fun a ha => (h.2.2.1 a ha).tr (S5 a (by omega) (by omega))
  have e : ∀ i, rv_ m9 x i = if i = 8 then x + 28 else if i = 7 then x + 22 else if i = 6 then x + 15 else if i = 5 then x + 13 else rv_ m5 x i := fun i => by
    rw [f9.2.2.2, f8.2.2.2, f7.2.2.2, f6.2.2.2]
  have e2 : iv_ m9 x 2 = iv_ m5 x 2 := by rw [f9.2.2.1, f8.2.2.1, f7.2.2.1, f6.2.2.1]
  obtain ⟨⟨k5, -⟩, X5, -, -, T2, T4, T5⟩ := h
  have k9 : kd_ m9 x = 1 := (f9.2.1.trans (f8.2.1.trans (f7.2.1.trans f6.2.1))).trans k5
  have hy : TP (hG x) m9 (x + 5) [] := TP.frame (u := m5) T5.1 hw5 s5.1 s5.2.2.2 (fun a ha hsc => S5 a (hlt a ha) (fun z => by rw [z, k5] at hsc; unfold Sc K5 at hsc; clear T2 T4 T5 X5; omega)) (fun e he => by simp at he)
  exact hinit_tail ho hN hin k9 l10 ⟨(e 0).trans X5.1, (e 1).trans X5.2.1, e2.trans X5.2.2.1, (e 3).trans X5.2.2.2.1, (e 4).trans X5.2.2.2.2, e 5, e 6, e 7, e 8⟩ S0 h1 h6 hk9 ⟨s3.1.trans T2.1, s3.2.1.trans T2.2⟩ ⟨s4.1.trans T4.1, fun i => (s4.2.2.1 i).trans (T4.2.1 i), fun i => (s4.2.2.2 i).trans (T4.2.2 i)⟩ ⟨hy, s5.1.trans T5.2.1, (s5.2.2.1 0).trans T5.2.2.1, (s5.2.2.1 1).trans T5.2.2.2⟩ hA ⟨hX, (s22.2.2.2 0).trans T8.2.1, fun i => (s22.2.2.1 i).trans (T8.2.2 i)⟩ hw9
theorem hinit_mid {X : Ctx_} {u m5 : Mem} {x : Nat} (ho : Ok_ X yX1_init.cls cX1_init none 6 40 4000 (qV fun v => HS0 v x ∧ sz_ v = x + 34 ∧ ∀ a, a < x → Sm u v a)) (hN : Nl_ X 1) (hin : In_ X) (h5 : I5 u m5 x) (hw5 : Wf m5) : Z X 51 [some (aR x)] [] m5 12 130 := by
  have k5 : kd_ m5 x = 1 := h5.1.1
  have l6 : sz_ m5 = x + 13 := h5.1.2
  have e0 : ∀ m : Mem, wR_ (al_ (al_ m 2 0) 101 8) (sz_ m) 0 (sz_ (al_ m 2 0)) = nky m 2 := fun m => rfl
  have ky2 : ∀ m : Mem, x < sz_ m → kd_ (nky m 2) x = kd_ m x := fun m hm => ((nky_facts (u := m) (K := 2) (Or.inl rfl)).2.2.2.2.1.2 x hm (fun z => z)).1
  refine z_aload_n ho dX1_init_51 rfl ?_
  refine nX1_7 ho dX1_init_52 (Nat.le_of_ble_eq_true rfl) (Nat.le_of_ble_eq_true rfl) ?_
  refine z_dup ho dX1_init_55 rfl ?_
  refine kX1_9 ho hN (c_Key_init _ _ (Or.inl (by rw [kd_al, if_pos rfl]))) dX1_init_56 (by omega) (Nat.le_of_ble_eq_true rfl) (Nat.le_of_ble_eq_true rfl) (Nat.le_of_ble_eq_true rfl) (Nat.le_of_ble_eq_true rfl) (fun u56 h56 => ?_)
  obtain rfl := h56
  rw [e0]
  refine pX1_40 ho hin dX1_init_59 (by rw [ky2 m5 (by omega)]; exact k5)  ?_
  obtain ⟨f6, hk6, z6⟩ := sg_key (x := x) (m := m5) (f := 5) (by omega)
  generalize wR_ (nky m5 2) x 5 (sz_ m5) = m6 at f6 hk6 z6 ⊢
  have k6 : kd_ m6 x = 1 := f6.2.1.trans k5
  have l7 : sz_ m6 = x + 15 := by omega
  rw [l6] at f6 hk6
  clear z6 k5
  refine z_aload_n ho dX1_init_62 rfl ?_
  refine nX1_43 ho dX1_init_63 (Nat.le_of_ble_eq_true rfl) (Nat.le_of_ble_eq_true rfl) ?_
  refine z_dup ho dX1_init_66 rfl ?_
  refine kX1_45 ho hN (c_Auto_init _ _ (by rw [kd_al, if_pos rfl]) rfl) dX1_init_67 (by omega) (Nat.le_of_ble_eq_true rfl) (Nat.le_of_ble_eq_true rfl) (Nat.le_of_ble_eq_true rfl) (Nat.le_of_ble_eq_true rfl) (fun u67 h67 => ?_)
  obtain ⟨w1, w2, w3⟩ := h67
  refine pX1_46 ho hin dX1_init_70 (by rw [(w3 x (by omega)).1, kd_al, if_neg (by omega)]; exact k6)  ?_
  have f7 : Sg x m6 (wR_ u67 x 6 (sz_ m6)) 6 (sz_ m6) := Sg.of (fun a ha => (Sm.al (by omega)).tr (w3 a ha)) (by omega)
  have s7 : ∀ a, a ≠ x → Sm u67 (wR_ u67 x 6 (sz_ m6)) a := fun a ha => Sm.wR ha
  have z7 : sz_ (wR_ u67 x 6 (sz_ m6)) = sz_ m6 + 7 := w2
  generalize wR_ u67 x 6 (sz_ m6) = m7 at f7 s7 z7 ⊢
  have k7 : kd_ m7 x = 1 := f7.2.1.trans k6
  have l8 : sz_ m7 = x + 22 := by omega
  rw [l7] at f7 w1
  have w1' : AX m7 (x + 15) (x + 16) (x + 17) (x + 18) (x + 19) (x + 20) (x + 21) := by
    have s := s7 (x + 15) (by omega)
    exact AX.sm w1 ⟨s.1, s.2.2.2⟩ (fun a q1 _ => s7 a (by omega))
  clear w1 w2 w3 s7 z7 k6
  refine z_aload_n ho dX1_init_73 rfl ?_
  refine nX1_50 ho dX1_init_74 (Nat.le_of_ble_eq_true rfl) (Nat.le_of_ble_eq_true rfl) ?_
  refine z_dup ho dX1_init_77 rfl ?_
  refine kX1_52 ho hN (c_Scroll_init _ _ (by rw [kd_al, if_pos rfl]) rfl (fun i => by rw [rv_al, if_pos rfl]) (fun i => by rw [iv_al, if_pos rfl])) dX1_init_78 (by omega) (Nat.le_of_ble_eq_true rfl) (Nat.le_of_ble_eq_true rfl) (Nat.le_of_ble_eq_true rfl) (Nat.le_of_ble_eq_true rfl) (fun u78 h78 => ?_)
  obtain ⟨v1, v2, v3, v4, v5⟩ := h78
  refine pX1_53 ho hin dX1_init_81 (by rw [(v5 x (by omega)).1, kd_al, if_neg (by omega)]; exact k7)  ?_
  have f8 : Sg x m7 (wR_ u78 x 7 (sz_ m7)) 7 (sz_ m7) := Sg.of (fun a ha => (Sm.al (by omega)).tr (v5 a ha)) (by omega)
  have s8 : ∀ a, a ≠ x → Sm u78 (wR_ u78 x 7 (sz_ m7)) a := fun a ha => Sm.wR ha
  have z8 : sz_ (wR_ u78 x 7 (sz_ m7)) = sz_ m7 + 6 := v4
  generalize wR_ u78 x 7 (sz_ m7) = m8 at f8 s8 z8 ⊢
  have k8 : kd_ m8 x = 1 := f8.2.1.trans k7
  have l9 : sz_ m8 = x + 28 := by omega
  rw [l8] at f8 v1 v2 v3
  have T8' : Q8 m8 x := by
    have s := s8 (x + 22) (by omega)
    exact ⟨SX.sm v1 (fun a q1 _ => s8 a (by omega)), by rw [s.2.2.2]; exact v2, fun i => by rw [s.2.2.1]; exact v3 i⟩
  clear v1 v2 v3 v4 v5 s8 z8 k7
  refine z_aload_n ho dX1_init_84 rfl ?_
  refine nX1_7 ho dX1_init_85 (Nat.le_of_ble_eq_true rfl) (Nat.le_of_ble_eq_true rfl) ?_
  refine z_dup ho dX1_init_88 rfl ?_
  refine kX1_9 ho hN (c_Key_init _ _ (Or.inl (by rw [kd_al, if_pos rfl]))) dX1_init_89 (by omega) (Nat.le_of_ble_eq_true rfl) (Nat.le_of_ble_eq_true rfl) (Nat.le_of_ble_eq_true rfl) (Nat.le_of_ble_eq_true rfl) (fun u89 h89 => ?_)
  obtain rfl := h89
  rw [e0]
  refine pX1_57 ho hin dX1_init_92 (by rw [ky2 m8 (by omega)]; exact k8)  ?_
  obtain ⟨f9, hk9, z9⟩ := sg_key (x := x) (m := m8) (f := 8) (by omega)
  generalize wR_ (nky m8 2) x 8 (sz_ m8) = m9 at f9 hk9 z9 ⊢
  have k9 : kd_ m9 x = 1 := f9.2.1.trans k8
  have l10 : sz_ m9 = x + 30 := by omega
  rw [l9] at f9 hk9
  refine z_wf (fun hw9 => ?_)
  exact z_cu (Nat.le_of_ble_eq_true rfl) (Nat.le_of_ble_eq_true rfl) (I5.go ho hN hin h5 hw5 l7 l8 l9 l10 f6 f7 f8 f9 hk6 w1' T8' hk9 hw9)
theorem I5.of {u m1 m2 m3 m4 m5 w : Mem} {x : Nat} (hz : sz_ u = x + 1) (l2 : sz_ m1 = x + 3) (l3 : sz_ m2 = x + 4) (l4 : sz_ m3 = x + 4) (l5 : sz_ m4 = x + 5) (l6 : sz_ m5 = x + 13) (f1 : Sg x u m1 0 (x + 1)) (f2 : Sg x m1 m2 1 (x + 3)) (s3 : ∀ a, a ≠ x → Sm m2 m3 a) (x3 : (∀ i, rv_ m3 x i = rv_ m2 x i) ∧ iv_ m3 x 2 = 3) (f4 : Sg x m3 m4 3 (x + 4)) (f5 : Sg x m4 m5 4 (x + 5)) (s5 : ∀ a, a ≠ x → Sm w m5 a) (hxl : kd_ w x = 1) (k5 : kd_ m5 x = 1) (hk1 : HK m1 (x + 1) []) (a2 : kd_ m2 (x + 3) = 106 ∧ ln_ m2 (x + 3) = 12) (a4 : kd_ m4 (x + 4) = 4 ∧ (∀ i, iv_ m4 (x + 4) i = 0) ∧ ∀ i, rv_ m4 (x + 4) i = 0) (y1 : YT (hG x) w (x + 5) []) (y2 : iv_ w (x + 5) 0 = 0 ∧ iv_ w (x + 5) 1 = 0 ∧ kd_ w (x + 5) = 5) (hw5 : Wf w) : I5 u m5 x := by
  have S4 : ∀ a, a < x + 5 → a ≠ x → Sm m4 m5 a := fun a ha hn => f5.1 a (by omega) hn
  have S3 : ∀ a, a < x + 4 → a ≠ x → Sm m3 m5 a := fun a ha hn => (f4.1 a (by omega) hn).tr (S4 a (by omega) hn)
  have S2 : ∀ a, a < x + 4 → a ≠ x → Sm m2 m5 a := fun a ha hn => (s3 a hn).tr (S3 a ha hn)
  have S1 : ∀ a, a < x + 3 → a ≠ x → Sm m1 m5 a := fun a ha hn => (f2.1 a (by omega) hn).tr (S2 a (by omega) hn)
  have S0 : ∀ a, a < x → Sm u m5 a := fun a ha => (f1.1 a (by omega) (by omega)).tr (S1 a (by omega) (by omega))
  have t3 := S2 (x + 3) (by omega) (by omega)
  have t4 := S4 (x + 4) (by omega) (by omega)
  have t5 := s5 (x + 5) (by omega)
  have h1 := hk1.same (S1 _ (by omega) (by omega)) (S1 _ (by omega) (by omega))
  have hy : TP (hG x) m5 (x + 5) [] := TP.frame (u := w) (Or.inr (Or.inl ⟨y2.2.2, y1⟩)) hw5 t5.1 t5.2.2.2 (fun a ha hsc => s5 a (fun z => by rw [z, hxl] at hsc; unfold Sc K5 at hsc; omega)) (fun e he => by simp at he)
  have e : ∀ i, rv_ m5 x i = if i = 4 then x + 5 else if i = 3 then x + 4 else if i = 1 then x + 3 else if i = 0 then x + 1 else rv_ u x i := fun i => by
    rw [f5.2.2.2, f4.2.2.2, x3.1, f2.2.2.2, f1.2.2.2]
  have e2 : iv_ m5 x 2 = 3 := by rw [f5.2.2.1, f4.2.2.1]; exact x3.2
  exact ⟨⟨k5, l6⟩, ⟨e 0, e 1, e2, e 3, e 4⟩, S0, h1, ⟨t3.1.trans a2.1, t3.2.1.trans a2.2⟩, ⟨t4.1.trans a4.1, fun i => (t4.2.2.1 i).trans (a4.2.1 i), fun i => (t4.2.2.2 i).trans (a4.2.2 i)⟩, ⟨hy, t5.1.trans y2.2.2, (t5.2.2.1 0).trans y2.1, (t5.2.2.1 1).trans y2.2.1⟩⟩
theorem c_hinit (l : Launch) (u : Mem) {x : Nat} (kx : kd_ u x = 1) (hz : sz_ u = x + 1) (hr : ∀ i, rv_ u x i = 0) (hi : ∀ i, iv_ u x i = 0) :
    Mt_ l yX1_init cX1_init 1 none 6 40 4000 [aR x] u (qV fun v => HS0 v x ∧ sz_ v = x + 34 ∧ ∀ a, a < x → Sm u v a) := by
  refine Mt_of (by decide) (Nat.le_of_ble_eq_true rfl) (fun X ho hX hN hI => ?_)
  subst hX
  have hin : In_ X := hI rfl
  show Z X 0 [some (aR x)] [] u 0 0
  refine z_wf (fun hw => ?_)
  have hx0 := (hw.1 x (by omega)).2
  have e0 : ∀ m : Mem, wR_ (al_ (al_ m 2 0) 101 8) (sz_ m) 0 (sz_ (al_ m 2 0)) = nky m 2 := fun m => rfl
  have ky2 : ∀ m : Mem, x < sz_ m → kd_ (nky m 2) x = kd_ m x := fun m hm => ((nky_facts (u := m) (K := 2) (Or.inl rfl)).2.2.2.2.1.2 x hm (fun z => z)).1
  refine z_aload_n ho dX1_init_0 rfl ?_
  refine kX1_1 ho hN dX1_init_1 hx0 (Nat.le_of_ble_eq_true rfl) (Nat.le_of_ble_eq_true rfl) ?_
  refine z_aload_n ho dX1_init_4 rfl ?_
  refine nX1_7 ho dX1_init_5 (Nat.le_of_ble_eq_true rfl) (Nat.le_of_ble_eq_true rfl) ?_
  refine z_dup ho dX1_init_8 rfl ?_
  refine kX1_9 ho hN (c_Key_init _ _ (Or.inl (by rw [kd_al, if_pos rfl]))) dX1_init_9 (by omega) (Nat.le_of_ble_eq_true rfl) (Nat.le_of_ble_eq_true rfl) (Nat.le_of_ble_eq_true rfl) (Nat.le_of_ble_eq_true rfl) (fun u9 h9 => ?_)
  obtain rfl := h9
  rw [e0]
  refine pX1_10 ho hin dX1_init_12 (by rw [ky2 u (by omega)]; exact kx)  ?_
  obtain ⟨f1, hk1, z1⟩ := sg_key (x := x) (m := u) (f := 0) (by omega)
  generalize wR_ (nky u 2) x 0 (sz_ u) = m1 at f1 hk1 z1 ⊢
  have k1 : kd_ m1 x = 1 := f1.2.1.trans kx
  have l2 : sz_ m1 = x + 3 := by omega
  rw [hz] at f1 hk1
  clear z1 ky2 e0 hr hi
  refine z_aload_n ho dX1_init_15 rfl ?_
  refine z_bipush ho dX1_init_16 rfl ?_
  refine aX1_16 ho dX1_init_18 (by omega) (by omega) (Nat.le_of_ble_eq_true rfl) (Nat.le_of_ble_eq_true rfl) ?_
  refine pX1_18 ho hin dX1_init_21 (by rw [kd_al, if_neg (by omega)]; exact k1)  ?_
  obtain ⟨f2, ⟨a2, b2, -, -⟩, z2⟩ := sg_obj (x := x) (m := m1) (f := 1) (n := 12) (K := 106) (by omega)
  generalize wR_ (al_ m1 106 12) x 1 (sz_ m1) = m2 at f2 a2 b2 z2 ⊢
  have k2 : kd_ m2 x = 1 := f2.2.1.trans k1
  rw [l2] at f2 a2 b2
  refine z_aload_n ho dX1_init_24 rfl ?_
  refine z_iconst ho dX1_init_25 ?_
  refine pX1_22 ho dX1_init_26 k2  ?_
  have s3 : ∀ a, a ≠ x → Sm m2 (wI_ m2 x 2 3) a := fun a ha => Sm.wI ha
  have x3 : (∀ i, rv_ (wI_ m2 x 2 3) x i = rv_ m2 x i) ∧ iv_ (wI_ m2 x 2 3) x 2 = 3 := ⟨fun _ => rfl, by rw [iv_wI, if_pos ⟨rfl, rfl⟩]⟩
  have z3 : sz_ (wI_ m2 x 2 3) = sz_ m2 := rfl
  have k3 : kd_ (wI_ m2 x 2 3) x = 1 := k2
  generalize wI_ m2 x 2 3 = m3 at s3 x3 z3 k3 ⊢
  have l3 : sz_ m2 = x + 4 := by omega
  have l4 : sz_ m3 = x + 4 := by omega
  refine z_aload_n ho dX1_init_29 rfl ?_
  refine nX1_26 ho dX1_init_30 (Nat.le_of_ble_eq_true rfl) (Nat.le_of_ble_eq_true rfl) ?_
  refine z_dup ho dX1_init_33 rfl ?_
  refine kX1_28 ho hN (c_X4_init _ _ (by omega)) dX1_init_34 (by omega) (Nat.le_of_ble_eq_true rfl) (Nat.le_of_ble_eq_true rfl) (Nat.le_of_ble_eq_true rfl) (Nat.le_of_ble_eq_true rfl) (fun u34 h34 => ?_)
  obtain rfl := h34
  refine pX1_29 ho hin dX1_init_37 (by rw [kd_al, if_neg (by omega)]; exact k3)  ?_
  obtain ⟨f4, ⟨a4, -, i4, r4⟩, z4⟩ := sg_obj (x := x) (m := m3) (f := 3) (n := 0) (K := 4) (by omega)
  generalize wR_ (al_ m3 4 0) x 3 (sz_ m3) = m4 at f4 a4 i4 r4 z4 ⊢
  have k4 : kd_ m4 x = 1 := f4.2.1.trans k3
  have l5 : sz_ m4 = x + 5 := by omega
  rw [l4] at f4 a4 i4 r4
  clear z2 z3 z4 k1 k2 k3
  refine z_aload_n ho dX1_init_40 rfl ?_
  refine nX1_33 ho dX1_init_41 (Nat.le_of_ble_eq_true rfl) (Nat.le_of_ble_eq_true rfl) ?_
  refine z_dup ho dX1_init_44 rfl ?_
  refine kX1_35 ho hN (c_X5_init _ _ (G := hG x) (by rw [kd_al, if_pos rfl]) rfl (fun i => by rw [rv_al, if_pos rfl]) (fun i => by rw [iv_al, if_pos rfl]) (fun a ha => by unfold hG at ha; omega)) dX1_init_45 (by omega) (Nat.le_of_ble_eq_true rfl) (Nat.le_of_ble_eq_true rfl) (Nat.le_of_ble_eq_true rfl) (Nat.le_of_ble_eq_true rfl) (fun u45 h45 => ?_)
  obtain ⟨y1, y2, y3, y4, y5, y6⟩ := h45
  refine pX1_36 ho hin dX1_init_48 (by rw [(y6 x (by omega)).1, kd_al, if_neg (by omega)]; exact k4)  ?_
  refine z_wf (fun hw5 => ?_)
  have f5 : Sg x m4 (wR_ u45 x 4 (sz_ m4)) 4 (sz_ m4) := Sg.of (fun a ha => (Sm.al (by omega)).tr (y6 a ha)) (by omega)
  have s5 : ∀ a, a ≠ x → Sm u45 (wR_ u45 x 4 (sz_ m4)) a := fun a ha => Sm.wR ha
  have z5 : sz_ (wR_ u45 x 4 (sz_ m4)) = sz_ m4 + 8 := y4
  generalize wR_ u45 x 4 (sz_ m4) = m5 at f5 s5 z5 ⊢
  have k5 : kd_ m5 x = 1 := f5.2.1.trans k4
  have l6 : sz_ m5 = x + 13 := by omega
  have z45 : sz_ u45 = x + 13 := by omega
  rw [l5] at f5 y1 y2 y3 y5
  have hxl : kd_ u45 x = 1 := by rw [(y6 x (by omega)).1, kd_al, if_neg (by omega)]; exact k4
  clear y4 y6 z5
  refine z_wf (fun hw6 => ?_)
  exact z_cu (Nat.le_of_ble_eq_true rfl) (Nat.le_of_ble_eq_true rfl) (hinit_mid ho hN hin (I5.of hz l2 l3 l4 l5 l6 f1 f2 s3 x3 f4 f5 s5 hxl k5 hk1 ⟨a2, b2⟩ ⟨a4, i4, r4⟩ y1 ⟨y2, y3, y5⟩ hw5) hw6)
