set_option maxRecDepth 100000
/-! ===== KeyHall: a map changes ===== -/
theorem tA_3 (x i : Nat) : tA x i = x + 4 ∨ tA x i = x + 5 ∨ tA x i = x + 33 := by unfold tA; split; (· exact Or.inl rfl); split; (· exact Or.inr (Or.inl rfl)); exact Or.inr (Or.inr rfl)
theorem tA_ne {x i j : Nat} (hi : i < 3) (hj : j < 3) (h : j ≠ i) : tA x j ≠ tA x i := by
  unfold tA
  split <;> split <;> (try split) <;> (try split) <;> omega
theorem HS.tree {u v : Mem} {x i : Nat} {tp fd : List Int} {M : Nat → List KV} {ch : Nat → Int} {VL : List VS} {Ks : List (List Int)} {T : List Int} {Os : List (List Int)} {S : Nat → List Nat} {S' : List Nat} {c' : Int} {L' : List KV} (h : HS u x tp fd M ch VL Ks T Os) (hw : Wf u) (hi : i < 3) (hT : HT u x S M ch) (hV : HV u x S ch VL) (hF : Fr (QT (hG x) (kd_ u (tA x i)) (tA x i)) u v)
    (h1 : TP (hG x) v (tA x i) S') (h2 : iv_ v (tA x i) 0 = S'.length) (h3 : iv_ v (tA x i) 1 = c') (h4 : S'.Nodup) (h5 : L' = S'.map (fun e => (tx v e, iv_ v e 2))) (h6 : ∀ e ∈ S', x + 64 ≤ e) (h7 : ∀ j, j < 3 → j ≠ i → ∀ e ∈ S', e ∉ S j) (hlen : S'.length ≤ 39) (hrc : rng c') (hc : (c' = ch i ∧ S' = S i) ∨ ch i < c') :
    HS v x tp fd (fun k => if k = i then L' else M k) (fun k => if k = i then c' else ch k) VL Ks T Os ∧ MR x u v ∧ HT v x (fun k => if k = i then S' else S k) (fun k => if k = i then L' else M k) (fun k => if k = i then c' else ch k) ∧ HV v x (fun k => if k = i then S' else S k) (fun k => if k = i then c' else ch k) VL ∧ Kp_ x u v := by
  obtain ⟨⟨g1, g2, g3⟩, hFd, t1, f1, ⟨h0, d1⟩, -, hA, hX⟩ := h
  have hkt := tA_kd hT hi
  have h3t := tA_3 x i
  -- what stays
  have st : ∀ a, a < sz_ u → a ≠ tA x i → kd_ u a ≠ 15 → kd_ u a ≠ 17 → (K5 (kd_ u a) → hG x a) → Sm u v a := fun a ha q1 q2 q3 q4 => (hF.2 a ha).2.2 (fun z => by
    rcases z with z | z
    · rcases z with ⟨-, z⟩ | ⟨-, z1, z2⟩ | ⟨-, z⟩
      · exact q2 z
      · exact z2 (q4 z1)
      · exact q3 z
    · exact q1 z)
  have hKp : Kp_ x u v := ⟨hF.1, fun a ha => ⟨(hF.2 a ha).1, (hF.2 a ha).2.1⟩, fun a ha hE hk => st a ha (by omega) (by omega) (by omega) (fun z => by unfold K5 at z; omega)⟩
  have hkl := hKp.2.1
  have kA : ∀ a, x + 15 ≤ a ∧ a < x + 28 → kd_ u a = 9 ∨ kd_ u a = 10 ∨ kd_ u a = 100 ∨ kd_ u a = 101 ∨ kd_ u a = 102 ∨ kd_ u a = 107 := fun a ha => by
    obtain ⟨⟨⟨a0, -⟩, ⟨a1, -⟩, ⟨a2, -⟩, ⟨a3, -⟩, ⟨a4, -⟩, ⟨a5, -⟩, ⟨a6, -⟩, -⟩, -⟩ := hA
    obtain ⟨⟨⟨⟨b0, -⟩, ⟨b1, -⟩, ⟨b2, -⟩, ⟨b3, -⟩, ⟨b4, -⟩, ⟨b5, -⟩, -⟩, -⟩, -⟩ := hX
    have : a = x + 15 ∨ a = x + 16 ∨ a = x + 17 ∨ a = x + 18 ∨ a = x + 19 ∨ a = x + 20 ∨ a = x + 21 ∨ a = x + 22 ∨ a = x + 23 ∨ a = x + 24 ∨ a = x + 25 ∨ a = x + 26 ∨ a = x + 27 := by omega
    rcases this with z | z | z | z | z | z | z | z | z | z | z | z | z <;> (rw [z]; omega)
  have sA : ∀ a, x + 15 ≤ a → a < x + 28 → Sm u v a := fun a q1 q2 => st a (by omega) (by omega) (by have := kA a ⟨q1, q2⟩; omega) (by have := kA a ⟨q1, q2⟩; omega) (fun _ => by unfold hG; omega)
  have sK : ∀ {a : Nat} {s : List Int}, HK u a s → a < x + 64 → a ≠ tA x i → a + 1 ≠ tA x i → HK v a s := fun {a s} hk hl q1 q2 => by
    have ha := (hk.1.lt hw)
    have hc2 := hk.1.2.2.1
    have hd2 := hk.2.1
    exact hk.same (st a ha.1 q1 (by omega) (by omega) (fun z => by unfold K5 at z; omega)) (st (a + 1) ha.2.1 q2 (by omega) (by omega) (fun z => by unfold K5 at z; omega))
  have kx := hFd.1
  have kv3 := hFd.2.2.2.2.2.2.2.2.2.2.1
  have s3 : Sm u v (x + 3) := st _ (by omega) (by omega) (by omega) (by omega) (fun z => by unfold K5 at z; omega)
  have hT' : HT v x (fun k => if k = i then S' else S k) (fun k => if k = i then L' else M k) (fun k => if k = i then c' else ch k) := by
    obtain ⟨⟨e1, e2, e3⟩, hT2, hT3⟩ := hT
    refine ⟨⟨by rw [(hkl _ (by omega)).1]; exact e1, by rw [(hkl _ (by omega)).1]; exact e2, by rw [(hkl _ (by omega)).1]; exact e3⟩, fun k hk => ?_, fun k j hk hj hkj e he => ?_⟩
    · simp only
      by_cases z : k = i
      · rw [if_pos z, if_pos z, if_pos z, z]
        exact ⟨h1, h2, h3, h4, h5, h6⟩
      · rw [if_neg z, if_neg z, if_neg z]
        obtain ⟨y1, y2, y3, y4, y5, y6⟩ := hT2 k hk
        have hne := tA_ne (x := x) hi hk z
        have hkk := tA_kd (S := S) (M := M) (ch := ch) ⟨⟨e1, e2, e3⟩, hT2, hT3⟩ hk
        have h3k := tA_3 x k
        have sk : Sm u v (tA x k) := st _ (by omega) hne (by omega) (by omega) (fun z => by unfold K5 at z; omega)
        have hen : ∀ e ∈ S k, En v e ∧ tx v e = tx u e ∧ ∀ j, iv_ v e j = iv_ u e j := fun e he => hKp.en hw (y1.en e he) (y6 e he)
        refine ⟨y1.frame hw sk.1 sk.2.2.2 (fun a ha hsc => ?_) (fun e he _ => ⟨(hen e he).1, (hen e he).2.1⟩), by rw [sk.2.2.1]; exact y2, by rw [sk.2.2.1]; exact y3, y4, ?_, y6⟩
        · refine (hF.2 a ha).2.2 (fun q => ?_)
          rcases q with q | q
          · unfold Sc K5 at hsc q
            omega
          · rw [q] at hsc
            unfold Sc K5 at hsc
            omega
        · rw [y5]
          exact List.map_congr_left (fun e he => by rw [(hen e he).2.1, (hen e he).2.2])
    · simp only at he ⊢
      by_cases z : k = i
      · rw [if_pos z] at he
        rw [if_neg (by omega)]
        exact h7 j hj (by omega) e he
      · rw [if_neg z] at he
        by_cases y : j = i
        · rw [if_pos y]
          exact fun w => h7 k hk (by omega) e w he
        · rw [if_neg y]
          exact hT3 k j hk hj hkj e he
  have hV' : HV v x (fun k => if k = i then S' else S k) (fun k => if k = i then c' else ch k) VL := by
    refine hV.same hw hKp s3 (fun a ha hk => st a ha (fun z => by rw [z] at hk; omega) (by omega) (by omega) (fun z => by unfold K5 at z; omega)) (fun k => ?_) (fun vs hvs a z1 z2 z3 => ?_)
    · by_cases z : k = i
      · rw [if_pos z, z]
        rcases hc with ⟨y, -⟩ | y <;> omega
      · rw [if_neg z]; exact Int.le_refl _
    · by_cases z : vs.1 = i
      · rw [if_pos z] at z3 ⊢
        rcases hc with ⟨y1, y2⟩ | y
        · rw [z, y2]
          exact ⟨by rw [z3, y1], fun w => w⟩
        · obtain ⟨j, hj, hjv⟩ := List.mem_iff_getElem.mp hvs
          have q := hV.1 j vs (by rw [List.getElem?_eq_getElem hj, hjv])
          have := q.2.2.2.2.2.2.2.2.2.2.2 z2
          rw [z] at this
          omega
      · rw [if_neg z] at z3 ⊢
        exact ⟨z3, fun w => w⟩
  refine ⟨⟨⟨by have := hF.1; omega, fun k hk => ?_, fun a q1 q2 => by rw [(hkl a (by omega)).1]; exact g3 a q1 q2⟩, hFd.same (st x (by omega) (by omega) (by omega) (by omega) (fun z => by unfold K5 at z; omega)) (hkl _ (by omega)), sK t1 (by omega) (by omega) (by omega), sK f1 (by omega) (by omega) (by omega), ⟨h0, sK d1 (by omega) (by omega) (by omega)⟩, ⟨_, hT', hV'⟩, hA.same (fun a q1 q2 => sA a q1 (by omega)), hX.same hw hKp (fun a ha hk => st a ha (fun z => by rw [z] at hk; omega) (by omega) (by omega) (fun z => by unfold K5 at z; omega)) (fun a q1 q2 => sA a (by omega) q2)⟩, ⟨hF.1, fun a q1 q2 => st a (by omega) (by omega) (by have := g3 a q1 q2; omega) (by have := g3 a q1 q2; omega) (fun _ => by unfold hG; omega)⟩, hT', hV', hKp⟩
  · simp only
    by_cases z : k = i
    · rw [if_pos z, if_pos z, h5, List.length_map]; exact ⟨hlen, hrc⟩
    · rw [if_neg z, if_neg z]; exact g2 k hk
theorem upd_self {α : Type} (f : Nat → α) (i : Nat) : (fun k => if k = i then f i else f k) = f := funext fun k => by by_cases z : k = i; (· rw [if_pos z, z]); rw [if_neg z]
/-- the value of a text in a list -/
def lookK (k : List Int) (L : List KV) (r : Option Int) : Prop := match r with
  | none => ∀ p ∈ L, p.1 ≠ k
  | some w => ∃ A B, L = A ++ (k, w) :: B ∧ ∀ p ∈ A ++ B, p.1 ≠ k
