set_option maxRecDepth 100000
/-! ===== the hall: what its cells hold ===== -/
/-- where the maps are; the int arrays that are not of the tree of bytes -/
def tA (x i : Nat) : Nat := if i = 0 then x + 4 else if i = 1 then x + 5 else x + 33
def hG (x : Nat) (a : Nat) : Prop := a < x + 5 ∨ (x + 13 ≤ a ∧ a < x + 64)
/-- a key of a map: its text, its value -/
abbrev KV : Type := List Int × Int
/-- a view: its map, its range, whether it is turned; its iterator: begun, seen, told, whether it can drop -/
abbrev VS : Type := Nat × (List Int → Prop) × Int × Int × Int × Option (List Int) × Int
/-- the fields -/
def HF (u : Mem) (x : Nat) (n : Nat) : Prop := kd_ u x = 1 ∧ rv_ u x 0 = x + 1 ∧ rv_ u x 1 = x + 3 ∧ iv_ u x 2 = n ∧ rv_ u x 3 = x + 4 ∧ rv_ u x 4 = x + 5 ∧ rv_ u x 5 = x + 13 ∧ rv_ u x 6 = x + 15 ∧ rv_ u x 7 = x + 22 ∧ rv_ u x 8 = x + 28 ∧ kd_ u (x + 3) = 106 ∧ ln_ u (x + 3) = 12 ∧ n ≤ 12
/-- a key of the hall's own -/
def HK (u : Mem) (a : Nat) (s : List Int) : Prop := Ky u a ∧ kd_ u a = 2 ∧ tx u a = s
/-- the maps -/
def HT (u : Mem) (x : Nat) (S : Nat → List Nat) (M : Nat → List KV) (ch : Nat → Int) : Prop := (kd_ u (x + 4) = 4 ∧ kd_ u (x + 5) = 5 ∧ kd_ u (x + 33) = 12) ∧ (∀ i, i < 3 → TP (hG x) u (tA x i) (S i) ∧ iv_ u (tA x i) 0 = (S i).length ∧ iv_ u (tA x i) 1 = ch i ∧ (S i).Nodup ∧ M i = (S i).map (fun e => (tx u e, iv_ u e 2)) ∧ ∀ e ∈ S i, x + 64 ≤ e) ∧ ∀ i j, i < 3 → j < 3 → i ≠ j → ∀ e ∈ S i, e ∉ S j
/-- a view -/
def HV1 (u : Mem) (x : Nat) (S : Nat → List Nat) (ch : Nat → Int) (a : Nat) (vs : VS) : Prop := ((x + 30 ≤ a ∧ a < x + 33) ∨ x + 64 ≤ a) ∧ vs.1 < 3 ∧ (∃ lo hi, Vw u a (tA x vs.1) lo hi ∧ ∀ s, Tx s → (inR lo hi s ↔ vs.2.1 s)) ∧ (rv_ u a 1 = 0 ∨ (x + 64 ≤ rv_ u a 1 ∧ kd_ u (rv_ u a 1) = 2)) ∧ (rv_ u a 2 = 0 ∨ (x + 64 ≤ rv_ u a 2 ∧ kd_ u (rv_ u a 2) = 2)) ∧ (iv_ u a 3 = vs.2.2.1 ∧ (vs.2.2.1 = 0 ∨ vs.2.2.1 = 1)) ∧ (iv_ u a 4 = vs.2.2.2.1 ∧ (vs.2.2.2.1 = 0 ∨ vs.2.2.2.1 = 1)) ∧ (iv_ u a 5 = vs.2.2.2.2.1 ∧ rng vs.2.2.2.2.1) ∧ ((rv_ u a 6 = 0 ∧ vs.2.2.2.2.2.1 = none) ∨ (En u (rv_ u a 6) ∧ x + 64 ≤ rv_ u a 6 ∧ vs.2.2.2.2.2.1 = some (tx u (rv_ u a 6)))) ∧ (iv_ u a 7 = vs.2.2.2.2.2.2 ∧ (vs.2.2.2.2.2.2 = 0 ∨ vs.2.2.2.2.2.2 = 1)) ∧ (vs.2.2.2.2.2.2 = 1 → vs.2.2.2.1 = 1 → vs.2.2.2.2.1 = ch vs.1 → rv_ u a 6 ∈ S vs.1) ∧ (vs.2.2.2.1 = 1 → vs.2.2.2.2.1 ≤ ch vs.1)
def HV (u : Mem) (x : Nat) (S : Nat → List Nat) (ch : Nat → Int) (VL : List VS) : Prop := (∀ (j : Nat) vs, VL[j]? = some vs → HV1 u x S ch (rv_ u (x + 3) (j : Int)) vs) ∧ ∀ j k : Nat, j < VL.length → k < VL.length → rv_ u (x + 3) (j : Int) = rv_ u (x + 3) (k : Int) → j = k
def HA (u : Mem) (x : Nat) (Ks : List (List Int)) : Prop := AX u (x + 15) (x + 16) (x + 17) (x + 18) (x + 19) (x + 20) (x + 21) ∧ AZ u (x + 15) (x + 16) (x + 17) (x + 18) (x + 19) (x + 20) (x + 21) Ks ∧ Ks.length ≤ 60
def HX (u : Mem) (x : Nat) (T : List Int) (Os : List (List Int)) : Prop := ST (x + 64) u (x + 22) (x + 23) (x + 24) (x + 25) (x + 26) (x + 27) T Os ∧ (iv_ u (x + 22) 7 = 0 ∨ (iv_ u (x + 22) 7 = 1 ∧ SAr T (iv_ u (x + 24)) (iv_ u (x + 25)) (iv_ u (x + 27))))
/-- the hall -/
def HS (u : Mem) (x : Nat) (tp fd : List Int) (M : Nat → List KV) (ch : Nat → Int) (VL : List VS) (Ks : List (List Int)) (T : List Int) (Os : List (List Int)) : Prop :=
  (x + 64 ≤ sz_ u ∧ (∀ i, i < 3 → (M i).length ≤ 39 ∧ rng (ch i)) ∧ ∀ a, x + 34 ≤ a → a < x + 64 → kd_ u a = 13 ∨ kd_ u a = 100 ∨ kd_ u a = 102 ∨ kd_ u a = 104) ∧ HF u x VL.length ∧ HK u (x + 1) tp ∧ HK u (x + 13) fd ∧ (∃ h, HK u (x + 28) h) ∧ (∃ S, HT u x S M ch ∧ HV u x S ch VL) ∧ HA u x Ks ∧ HX u x T Os
/-! frames -/
/-- cells behind the hall's own that stay as they are: keys, entries, characters, ropes -/
def Kp_ (x : Nat) (u v : Mem) : Prop := sz_ u ≤ sz_ v ∧ (∀ a, a < sz_ u → kd_ v a = kd_ u a ∧ ln_ v a = ln_ u a) ∧ ∀ a, a < sz_ u → x + 64 ≤ a → (kd_ u a = 2 ∨ kd_ u a = 14 ∨ kd_ u a = 101 ∨ kd_ u a = 18) → Sm u v a
theorem Kp_.rf (x : Nat) (u : Mem) : Kp_ x u u := ⟨Nat.le_refl _, fun _ _ => ⟨rfl, rfl⟩, fun a _ _ _ => Sm.rf u a⟩
theorem Kp_.en {x : Nat} {u v : Mem} {e : Nat} (h : Kp_ x u v) (hw : Wf u) (he : En u e) (hx : x + 64 ≤ e) : En v e ∧ tx v e = tx u e ∧ ∀ i, iv_ v e i = iv_ u e i := by
  have hl := he.1.lt hw
  have s1 := h.2.2 e hl.1 hx (Or.inr (Or.inl he.2))
  have s2 := h.2.2 (e + 1) hl.2.1 (by omega) (Or.inr (Or.inr (Or.inl he.1.2.2.1)))
  have := he.1.same s1 s2
  exact ⟨⟨this.1, by rw [s1.1]; exact he.2⟩, this.2, s1.2.2.1⟩
theorem Kp_.ky {x : Nat} {u v : Mem} {k : Nat} (h : Kp_ x u v) (hw : Wf u) (hk : Ky u k) (h2 : kd_ u k = 2) (hx : x + 64 ≤ k) : Ky v k ∧ tx v k = tx u k := by
  have hl := hk.lt hw
  exact hk.same (h.2.2 k hl.1 hx (Or.inl h2)) (h.2.2 (k + 1) hl.2.1 (by omega) (Or.inr (Or.inr (Or.inl hk.2.2.1))))
theorem HF.same {u v : Mem} {x n : Nat} (h : HF u x n) (s1 : Sm u v x) (s3 : kd_ v (x + 3) = kd_ u (x + 3) ∧ ln_ v (x + 3) = ln_ u (x + 3)) : HF v x n := by
  unfold HF at h ⊢
  rw [s1.1, s1.2.2.1, s3.1, s3.2]
  simp only [s1.2.2.2]
  exact h
theorem HK.same {u v : Mem} {a : Nat} {s : List Int} (h : HK u a s) (s1 : Sm u v a) (s2 : Sm u v (a + 1)) : HK v a s := by
  have := h.1.same s1 s2
  exact ⟨this.1, by rw [s1.1]; exact h.2.1, by rw [this.2]; exact h.2.2⟩
theorem tA_kd {u : Mem} {x i : Nat} {S : Nat → List Nat} {M : Nat → List KV} {ch : Nat → Int} (h : HT u x S M ch) (hi : i < 3) : (i = 0 ∧ kd_ u (tA x i) = 4) ∨ (i = 1 ∧ kd_ u (tA x i) = 5) ∨ (i = 2 ∧ kd_ u (tA x i) = 12) := by
  obtain ⟨⟨h1, h2, h3⟩, -⟩ := h
  unfold tA
  by_cases z0 : i = 0
  · left; rw [if_pos z0]; exact ⟨z0, h1⟩
  · by_cases z1 : i = 1
    · right; left; rw [if_neg z0, if_pos z1]; exact ⟨z1, h2⟩
    · right; right; rw [if_neg z0, if_neg z1]; exact ⟨by omega, h3⟩
/-- the maps stay: their own cells stay -/
theorem HT.same {u v : Mem} {x : Nat} {S : Nat → List Nat} {M : Nat → List KV} {ch : Nat → Int} (h : HT u x S M ch) (hw : Wf u) (hk : Kp_ x u v) (ht : ∀ i, i < 3 → (∀ j, rv_ v (tA x i) j = rv_ u (tA x i) j) ∧ iv_ v (tA x i) 0 = iv_ u (tA x i) 0 ∧ iv_ v (tA x i) 1 = iv_ u (tA x i) 1) (hc : ∀ i a, i < 3 → a < sz_ u → Sc (hG x) (kd_ u (tA x i)) (kd_ u a) a → Sm u v a) : HT v x S M ch := by
  have h' := h
  obtain ⟨⟨h1, h2, h3⟩, h4, h5⟩ := h
  have l4 := (hw.1 (x + 4) (by omega)).1
  have l5 := (hw.1 (x + 5) (by omega)).1
  have l3 := (hw.1 (x + 33) (by omega)).1
  refine ⟨⟨by rw [(hk.2.1 _ l4).1]; exact h1, by rw [(hk.2.1 _ l5).1]; exact h2, by rw [(hk.2.1 _ l3).1]; exact h3⟩, fun i hi => ?_, h5⟩
  obtain ⟨g1, g2, g3, g4, g5, g6⟩ := h4 i hi
  have lt : tA x i < sz_ u := (hw.1 _ (by have := tA_kd h' hi; omega)).1
  have hen : ∀ e ∈ S i, En v e ∧ tx v e = tx u e ∧ ∀ j, iv_ v e j = iv_ u e j := fun e he => hk.en hw (g1.en e he) (g6 e he)
  refine ⟨g1.frame hw (hk.2.1 _ lt).1 (ht i hi).1 (fun a ha hs => hc i a hi ha hs) (fun e he _ => ⟨(hen e he).1, (hen e he).2.1⟩), by rw [(ht i hi).2.1]; exact g2, by rw [(ht i hi).2.2]; exact g3, g4, ?_, g6⟩
  rw [g5]
  exact List.map_congr_left (fun e he => by rw [(hen e he).2.1, (hen e he).2.2])
theorem HV1.same {u v : Mem} {x a : Nat} {S S' : Nat → List Nat} {ch ch' : Nat → Int} {vs : VS} (h : HV1 u x S ch a vs) (hw : Wf u) (hk : Kp_ x u v) (sa : Sm u v a) (hle : ch vs.1 ≤ ch' vs.1) (hS : vs.2.2.2.2.2.2 = 1 → vs.2.2.2.1 = 1 → vs.2.2.2.2.1 = ch' vs.1 → vs.2.2.2.2.1 = ch vs.1 ∧ (rv_ u a 6 ∈ S vs.1 → rv_ u a 6 ∈ S' vs.1)) : HV1 v x S' ch' a vs := by
  obtain ⟨h1, h2, ⟨lo, hi, ⟨q1, q2, q3, q4⟩, hr⟩, h4, h5, h6, h7, h8, h9, h10, h11, h12⟩ := h
  have ko : ∀ {k : Nat} {o : Option (List Int)}, KyO u k o → (k = 0 ∨ (x + 64 ≤ k ∧ kd_ u k = 2)) → KyO v k o := fun {k o} hko hx => by
    rcases hko with z | ⟨z, e⟩
    · exact Or.inl z
    · have k0 := (z.lt hw).2.2
      obtain ⟨y1, y2⟩ := hx.resolve_left k0
      have := hk.ky hw z y2 y1
      exact Or.inr ⟨this.1, by rw [this.2]; exact e⟩
  have ks : ∀ {k : Nat}, (k = 0 ∨ (x + 64 ≤ k ∧ kd_ u k = 2)) → (k = 0 ∨ (x + 64 ≤ k ∧ kd_ v k = 2)) := fun {k} hx => by
    rcases hx with z | ⟨z1, z2⟩
    · exact Or.inl z
    · exact Or.inr ⟨z1, by rw [(hk.2.1 k (hw.1 k (by omega)).1).1]; exact z2⟩
  refine ⟨h1, h2, ⟨lo, hi, ⟨by rw [sa.1]; exact q1, by rw [sa.2.2.2]; exact q2, by rw [sa.2.2.2]; exact ko q3 h4, by rw [sa.2.2.2]; exact ko q4 h5⟩, hr⟩, by rw [sa.2.2.2]; exact ks h4, by rw [sa.2.2.2]; exact ks h5, by rw [sa.2.2.1]; exact h6, by rw [sa.2.2.1]; exact h7, by rw [sa.2.2.1]; exact h8, ?_, by rw [sa.2.2.1]; exact h10, fun z1 z2 z3 => ?_, fun z => Int.le_trans (h12 z) hle⟩
  · rw [sa.2.2.2]
    rcases h9 with z | ⟨z1, z2, z3⟩
    · exact Or.inl z
    · have := hk.en hw z1 z2
      exact Or.inr ⟨this.1, z2, by rw [this.2.1]; exact z3⟩
  · rw [sa.2.2.2]
    obtain ⟨y1, y2⟩ := hS z1 z2 z3
    exact y2 (h11 z1 z2 y1)
theorem HV.same {u v : Mem} {x : Nat} {S S' : Nat → List Nat} {ch ch' : Nat → Int} {VL : List VS} (h : HV u x S ch VL) (hw : Wf u) (hk : Kp_ x u v) (s3 : Sm u v (x + 3)) (hv : ∀ a, a < sz_ u → kd_ u a = 11 → Sm u v a) (hle : ∀ k, ch k ≤ ch' k) (hS : ∀ vs ∈ VL, ∀ a, vs.2.2.2.2.2.2 = 1 → vs.2.2.2.1 = 1 → vs.2.2.2.2.1 = ch' vs.1 → vs.2.2.2.2.1 = ch vs.1 ∧ (a ∈ S vs.1 → a ∈ S' vs.1)) : HV v x S' ch' VL := by
  obtain ⟨h1, h2⟩ := h
  refine ⟨fun j vs hj => ?_, fun j k hj hk' e => h2 j k hj hk' (by rw [s3.2.2.2, s3.2.2.2] at e; exact e)⟩
  rw [s3.2.2.2]
  have q := h1 j vs hj
  have ka : kd_ u (rv_ u (x + 3) (j : Int)) = 11 := by obtain ⟨-, -, ⟨lo, hi, ⟨q1, -⟩, -⟩, -⟩ := q; exact q1
  exact q.same hw hk (hv _ (hw.1 _ (by omega)).1 ka) (hle _) (fun z1 z2 z3 => hS vs (List.mem_of_getElem? hj) _ z1 z2 z3)
theorem HA.same {u v : Mem} {x : Nat} {Ks : List (List Int)} (h : HA u x Ks) (hs : ∀ a, x + 15 ≤ a → a < x + 22 → Sm u v a) : HA v x Ks := by
  obtain ⟨h1, h2, h3⟩ := h
  have e : ∀ a, x + 15 ≤ a → a < x + 22 → iv_ v a = iv_ u a := fun a q1 q2 => funext (hs a q1 q2).2.2.1
  refine ⟨?_, ?_, h3⟩
  · unfold AX at h1 ⊢
    have s0 := hs (x + 15) (by omega) (by omega)
    have s1 := hs (x + 16) (by omega) (by omega)
    have s2 := hs (x + 17) (by omega) (by omega)
    have s3 := hs (x + 18) (by omega) (by omega)
    have s4 := hs (x + 19) (by omega) (by omega)
    have s5 := hs (x + 20) (by omega) (by omega)
    have s6 := hs (x + 21) (by omega) (by omega)
    simp only [s0.1, s0.2.2.2, s1.1, s1.2.1, s2.1, s2.2.1, s3.1, s3.2.1, s4.1, s4.2.1, s5.1, s5.2.1, s6.1, s6.2.1]
    exact h1
  · unfold AZ LSt at h2 ⊢
    rw [e (x + 15) (by omega) (by omega), e (x + 16) (by omega) (by omega), e (x + 17) (by omega) (by omega), e (x + 18) (by omega) (by omega), e (x + 19) (by omega) (by omega), e (x + 20) (by omega) (by omega), e (x + 21) (by omega) (by omega)]
    exact h2
theorem HX.same {u v : Mem} {x : Nat} {T : List Int} {Os : List (List Int)} (h : HX u x T Os) (hw : Wf u) (hk : Kp_ x u v) (h18 : ∀ a, a < sz_ u → kd_ u a = 18 → Sm u v a) (hs : ∀ a, x + 22 ≤ a → a < x + 28 → Sm u v a) : HX v x T Os := by
  obtain ⟨⟨h1, h2, h3, h4, h5, h6, h7⟩, h8⟩ := h
  have fr : ∀ {r : Nat} {S : List Int}, RO (x + 64) u r S → RO (x + 64) v r S := fun hr => RO.frame (fun a ha => h18 a (hw.1 a (by omega)).1 ha) (fun a ha hE => hk.2.2 a (hw.1 a (by omega)).1 hE (Or.inr (Or.inr (Or.inl ha)))) hr
  have s0 := hs (x + 22) (by omega) (by omega)
  have s1 := hs (x + 23) (by omega) (by omega)
  refine ⟨⟨h1.same (fun a ha => ?_) (fun i _ => s0.2.2.2 i), by rw [s0.2.2.2]; exact fr h2, h3, fun j O hj => by rw [s1.2.2.2]; exact fr (h4 j O hj), by rw [s0.2.2.1]; exact h5, h6, h7⟩, ?_⟩
  · have : x + 22 ≤ a ∧ a < x + 28 := by omega
    exact ⟨(hs a this.1 this.2).1, (hs a this.1 this.2).2.1⟩
  · have e : ∀ a, x + 22 ≤ a → a < x + 28 → iv_ v a = iv_ u a := fun a q1 q2 => funext (hs a q1 q2).2.2.1
    rw [e (x + 22) (by omega) (by omega), e (x + 24) (by omega) (by omega), e (x + 25) (by omega) (by omega), e (x + 27) (by omega) (by omega)]
    exact h8
