set_option maxRecDepth 100000
/-! ===== the law: the case automaton ===== -/
theorem Far.lt {Ks : List (List Int)} {tp : List Int} {i j : Nat} (h : Far Ks tp i) (g : Far Ks tp j) (hij : i < j) : False := by
  obtain ⟨h1, h2, h3⟩ := h
  obtain ⟨g1, g2, g3⟩ := g
  refine h3 (by omega) ?_
  obtain ⟨k, k1, k2⟩ := g2
  exact ⟨k, k1, (List.take_prefix_take_left (by omega)).trans k2⟩
theorem Far.uniq {Ks : List (List Int)} {tp : List Int} {i j : Nat} (h : Far Ks tp i) (g : Far Ks tp j) : i = j := by
  rcases Nat.lt_trichotomy i j with z | z | z
  · exact (h.lt g z).elim
  · exact z
  · exact (g.lt h z).elim
theorem k_automaton {X : Ctx_} {ret : Option FieldType} {d mc ms : Nat} {Q : Option AV → Mem → Prop} (ho : Ok_ X "KeyHallLaw" cL_law ret d mc ms Q) (hN : Nl_ X 7) {b L : Nat} {xs : Nat → Int32} (hs : Sx_ X b L xs) (hst : (La_ X).stackTraces = false) {u : Mem} {x N : Nat} {i : Int} {cu su : Nat} (h : LJ u x N) (hN1 : N + 1 ≤ 64) (h0 : 0 ≤ i) (h1 : i + 4 ≤ L) (hd : 2000 ≤ d) (hcu : cu + 2372 ≤ mc) (hsu : su + 14199 ≤ ms) (nx : ∀ u', LJ u' x (N + 1) → Z X 1297 [some (aR (b + 1)), some (aR x), some (aR (x + 34)), some (aR (x + 63)), some (aI i), none, none] [] u' (cu + 2372) (su + 14199)) : Z X 1048 [some (aR (b + 1)), some (aR x), some (aR (x + 34)), some (aR (x + 63)), some (aI i), none, none] [] u cu su := by
  obtain ⟨tp, fd, M, ch, VL, Ks, T, Os, hH, hM, hO, hB⟩ := h
  have ra := rg_i32 (xs (i + 1).toNat)
  have hkx := hH.kx
  refine z_aload_n ho dL_law_1048 rfl ?_
  refine z_aload_n ho dL_law_1049 rfl ?_
  refine z_iload ho dL_law_1050 rfl ?_
  refine z_iconst ho dL_law_1052 ?_
  refine z_iadd ho dL_law_1053 ?_
  refine z_sld ho hs dL_law_1054 (by omega) (by omega) ?_
  refine kX0_131 ho hN (c_automaton _ _ hH ra) dL_law_1055 (by assumption) (by omega) (Nat.le_of_ble_eq_true rfl) (by omega) (by omega) (fun x1055 u1055 h1055 => ?_)
  obtain ⟨q1, q3⟩ := h1055
  refine z_wf (fun hw2 => ?_)
  have hM2 := hM.mr q1
  have hO2 := hO.mr q1
  refine z_aload_n ho dL_law_1058 rfl ?_
  refine z_aload_n ho dL_law_1059 rfl ?_
  refine z_iload ho dL_law_1060 rfl ?_
  refine z_iconst ho dL_law_1062 ?_
  refine z_iadd ho dL_law_1063 ?_
  refine z_sld ho hs dL_law_1064 (by omega) (by omega) ?_
  refine kX0_134 ho hN (c_mautomaton _ _ hM2 ra) dL_law_1065 hM2.1.1 (by omega) (Nat.le_of_ble_eq_true rfl) (by omega) (by omega) (fun x1065 u1065 h1065 => ?_)
  generalize (xs (i + 1).toNat).toInt = w at *
  rcases q3 with ⟨a1, a2, a3⟩ | ⟨a0, a1, a3, Rs, a4, a5⟩ | ⟨a1, a3, a4⟩
  · rcases h1065 with ⟨b1, b2, g2⟩ | ⟨b0, b1, -⟩ | ⟨b1, -⟩
    · refine z_same (tgt := 1297) ho dL_law_1068 (by decide) (by rw [a2, b2]) ?_
      exact z_cu (by omega) (by omega) (nx _ (LJ.of hw2 a3 hO2 g2 hN1 (hB.up hN1)))
    · omega
    · omega
  · rcases h1065 with ⟨b1, b2, g2⟩ | ⟨b0, b1, g2, Rs', b4, b5⟩ | ⟨b1, -⟩
    · omega
    · refine z_same (tgt := 1297) ho dL_law_1068 (by decide) (by rw [a5, b5, a4.nums b4 (fun _ => Iff.rfl)]) ?_
      exact z_cu (by omega) (by omega) (nx _ (LJ.of hw2 a3 hO2 g2 hN1 (hB.up hN1)))
    · omega
  · rcases h1065 with ⟨b1, b2, g2⟩ | ⟨b0, b1, -⟩ | ⟨b1, g2, b4⟩
    · clear a4; omega
    · clear a4; omega
    · refine z_same (tgt := 1297) ho dL_law_1068 (by decide) ?_ ?_
      · rcases a4 with ⟨c1, c2⟩ | ⟨c1, j, c2, c3⟩
        · rcases b4 with ⟨d1, d2⟩ | ⟨d1, -⟩
          · rw [c2, d2]
          · exact absurd c1 d1
        · rcases b4 with ⟨d1, d2⟩ | ⟨d1, j', d2, d3⟩
          · exact absurd d1 c1
          · rw [c3, d3, c2.uniq d2]
      · exact z_cu (by omega) (by omega) (nx _ (LJ.of hw2 a3 hO2 g2 hN1 (hB.clear hN1)))
