set_option maxRecDepth 100000
/-! ===== KeyHallModel: inner, edges ===== -/
/-- the first key that begins with P is ahead of key kk, or is it and P is short -/
def Gk (K : List (List Int)) (kk n : Nat) (P : List Int) : Prop := ∃ (k : Nat) (x : List Int), K[k]? = some x ∧ P <+: x ∧ (∀ (j : Nat) y, j < k → K[j]? = some y → ¬ P <+: y) ∧ (k < kk ∨ (k = kk ∧ P.length < n))
def IL (K : List (List Int)) (kk n : Nat) (L : List (List Int × Nat)) : Prop := (L.map Prod.fst).Nodup ∧ ∀ P m, (P, m) ∈ L ↔ Inn K P m ∧ Gk K kk n P
theorem Gk.least {K : List (List Int)} {P : List Int} : ∀ (j : Nat) x, K[j]? = some x → P <+: x → ∃ (k : Nat) (y : List Int), k ≤ j ∧ K[k]? = some y ∧ P <+: y ∧ ∀ (i : Nat) z, i < k → K[i]? = some z → ¬ P <+: z := by
  intro j
  induction j using Nat.strongRecOn with
  | ind j ih =>
    intro x hx hp
    by_cases h : ∃ (i : Nat) (z : List Int), i < j ∧ K[i]? = some z ∧ P <+: z
    · obtain ⟨i, z, h1, h2, h3⟩ := h
      obtain ⟨k, y, q1, q2⟩ := ih i h1 z h2 h3
      exact ⟨k, y, by omega, q2⟩
    · exact ⟨j, x, Nat.le_refl _, hx, hp, fun i z h1 h2 h3 => h ⟨i, z, h1, h2, h3⟩⟩
theorem Inn.pos {K : List (List Int)} {P : List Int} {m : Nat} (h : Inn K P m) : 1 ≤ m ∧ ∃ x ∈ K, P <+: x := by
  obtain ⟨D, d1, d2, d3, d4⟩ := h
  have hm : 1 ≤ m := by rcases d4 with z | z <;> omega
  refine ⟨hm, ?_⟩
  cases D with
  | nil => simp at d3; omega
  | cons b D =>
    obtain ⟨s, hs⟩ := (d2 b).mp (by simp)
    exact ⟨_, hs, ⟨b :: s, rfl⟩⟩
theorem cnt_snoc (k : Int) (L : List (List Int × Nat)) (P : List Int) (m : Nat) : (cls k m = true → cnt k (L ++ [(P, m)]) = cnt k L + 1) ∧ (cls k m = false → cnt k (L ++ [(P, m)]) = cnt k L) := by
  unfold cnt
  rw [List.filter_append, List.length_append]
  constructor
  · intro h; simp [h]
  · intro h; simp [h]
theorem IL.step {K : List (List Int)} {kk n : Nat} {L : List (List Int × Nat)} {x : List Int} {r : Int} (h : IL K kk n L) (hx : K[kk]? = some x) (hn : n ≤ x.length) (hf : FanV K kk (x.take n) r) : ∃ L', IL K kk (n + 1) L' ∧ ((r = 0 ∧ L' = L) ∨ (∃ m : Nat, 1 ≤ m ∧ r = (m : Int) ∧ L' = L ++ [(x.take n, m)])) := by
  have lt : (x.take n).length = n := by rw [List.length_take]; omega
  -- what is new
  have new : ∀ P, Gk K kk (n + 1) P ↔ Gk K kk n P ∨ (P = x.take n ∧ ∀ (j : Nat) y, j < kk → K[j]? = some y → ¬ P <+: y) := fun P => by
    constructor
    · rintro ⟨k, y, h1, h2, h3, h4⟩
      rcases h4 with z | ⟨z1, z2⟩
      · exact Or.inl ⟨k, y, h1, h2, h3, Or.inl z⟩
      · rcases Nat.lt_or_eq_of_le (show P.length ≤ n by omega) with w | w
        · exact Or.inl ⟨k, y, h1, h2, h3, Or.inr ⟨z1, w⟩⟩
        · right
          rw [z1] at h1 h3
          rw [hx] at h1
          cases h1
          exact ⟨by rw [← w]; exact List.prefix_iff_eq_take.mp h2, h3⟩
    · rintro (⟨k, y, h1, h2, h3, h4⟩ | ⟨h1, h2⟩)
      · exact ⟨k, y, h1, h2, h3, by omega⟩
      · exact ⟨kk, x, hx, by rw [h1]; exact List.take_prefix _ _, h2, Or.inr ⟨rfl, by rw [h1, lt]; omega⟩⟩
  rcases hf with ⟨⟨j, y, h1, h2, h3⟩, h4⟩ | ⟨h1, ⟨m, h2, h3⟩ | ⟨h2, h3⟩⟩
  · refine ⟨L, ⟨h.1, fun P m => ?_⟩, Or.inl ⟨h4, rfl⟩⟩
    rw [h.2 P m, new P]
    constructor
    · exact fun z => ⟨z.1, Or.inl z.2⟩
    · rintro ⟨z1, z2 | z2⟩
      · exact ⟨z1, z2⟩
      · exact absurd (z2.1 ▸ h3) (z2.2 j y h1 h2)
  · have hnot : ¬ Gk K kk n (x.take n) := by
      rintro ⟨k, y, g1, g2, g3, g4⟩
      rcases g4 with z | z
      · exact h1 k y z g1 g2
      · omega
    refine ⟨L ++ [(x.take n, m)], ⟨?_, fun P m' => ?_⟩, Or.inr ⟨m, h2.pos.1, h3, rfl⟩⟩
    · rw [List.map_append]
      refine List.nodup_append.mpr ⟨h.1, by simp, fun a ha b hb => ?_⟩
      simp at hb
      obtain ⟨⟨P, m'⟩, hp, rfl⟩ := List.mem_map.mp ha
      intro e
      have := ((h.2 P m').mp hp).2
      simp only at e
      rw [e, hb] at this
      exact hnot this
    · rw [List.mem_append, h.2 P m', new P, List.mem_singleton]
      constructor
      · rintro (⟨z1, z2⟩ | z)
        · exact ⟨z1, Or.inl z2⟩
        · cases z
          exact ⟨h2, Or.inr ⟨rfl, h1⟩⟩
      · rintro ⟨z1, z2 | z2⟩
        · exact Or.inl ⟨z1, z2⟩
        · right
          rw [z2.1] at z1 ⊢
          rw [z1.uniq h2]
  · refine ⟨L, ⟨h.1, fun P m => ?_⟩, Or.inl ⟨h3, rfl⟩⟩
    rw [h.2 P m, new P]
    constructor
    · exact fun z => ⟨z.1, Or.inl z.2⟩
    · rintro ⟨z1, z2 | z2⟩
      · exact ⟨z1, z2⟩
      · exact absurd (z2.1 ▸ z1) (h2 m)
theorem IL.row {K : List (List Int)} {kk : Nat} {L : List (List Int × Nat)} {x : List Int} (h : IL K kk (x.length + 1) L) (hx : K[kk]? = some x) : IL K (kk + 1) 0 L := by
  refine ⟨h.1, fun P m => ?_⟩
  rw [h.2 P m]
  have : Gk K kk (x.length + 1) P ↔ Gk K (kk + 1) 0 P := by
    constructor
    · rintro ⟨k, y, h1, h2, h3, h4⟩
      exact ⟨k, y, h1, h2, h3, by omega⟩
    · rintro ⟨k, y, h1, h2, h3, h4⟩
      refine ⟨k, y, h1, h2, h3, ?_⟩
      rcases Nat.lt_or_eq_of_le (show k ≤ kk by omega) with z | z
      · exact Or.inl z
      · right
        rw [z, hx] at h1
        cases h1
        exact ⟨z, by have := h2.length_le; omega⟩
  rw [this]
theorem IL.fin {K : List (List Int)} {L : List (List Int × Nat)} (h : IL K K.length 0 L) : Inns K L := by
  refine ⟨h.1, fun P m => ?_⟩
  rw [h.2 P m]
  refine ⟨fun z => z.1, fun z => ⟨z, ?_⟩⟩
  obtain ⟨x, hx, hp⟩ := z.pos.2
  obtain ⟨j, hj, hjx⟩ := List.mem_iff_getElem.mp hx
  obtain ⟨k, y, q1, q2, q3, q4⟩ := Gk.least j x (by rw [List.getElem?_eq_getElem hj, hjx]) hp
  exact ⟨k, y, q2, q3, q4, Or.inl (by omega)⟩
theorem c_minner (l : Launch) (u : Mem) {m : Nat} {w : Int} {M : Nat → List KV} {ch : Nat → Int} {K : List (List Int)} (hm : MF u m) (hM : MM u m M ch) (hK : K = (M 1).map (fun q => ocL q.1)) (w0 : 0 ≤ w) (w5 : w < 5) : Mt_ l yX13_inner cX13_inner 7 (some .int) 3 0 0 [aR m, aI w] u (qI fun r v => u = v ∧ ∃ L, Inns K L ∧ r = cnt w L) := by
  obtain ⟨g1, g2, g3, g4, g5⟩ := hM 1 (by decide)
  have g1 : iv_ u (m + 2) 1 = ((M 1).length : Int) := g1
  have lK : K.length = (M 1).length := by rw [hK, List.length_map]
  refine Mt_of (by decide) (Nat.le_of_ble_eq_true rfl) (fun X ho hX hN hI => ?_)
  subst hX
  show Z X 0 [some (aR m), some (aI w), none, none, none, none, none] [] u 0 0
  have key : ∀ (d kk : Nat) (L : List (List Int × Nat)), d + kk = (M 1).length → IL K kk 0 L → Z X 5 [some (aR m), some (aI w), some (aI (cnt w L)), some (aI (64 + (kk : Int))), none, none, none] [] u 0 0 := by
    intro d
    induction d with
    | zero =>
      intro kk L hd hL
      refine z_iload_n ho dX13_inner_5 rfl ?_
      refine z_bipush ho dX13_inner_6 rfl ?_
      refine z_aload_n ho dX13_inner_8 rfl ?_
      refine gX13_13 ho dX13_inner_9 hm.1 (mget hm.r3 ?_)
      refine z_iconst ho dX13_inner_12 ?_
      refine z_iald ho dX13_inner_13 hm.k2 (by omega) (hm.t2 (by omega)) ?_
      refine z_iadd ho dX13_inner_14 ?_
      refine z_icmp_ge (tgt := 176) ho dX13_inner_15 (by decide) (by unfold rng; omega) (by rw [g1]; unfold rng; omega) (fun c15 => ?_) (fun c15 => ?_)
      · 
        refine z_iload_n ho dX13_inner_176 rfl ?_
        refine r_I ho dX13_inner_177 (Nat.le_of_ble_eq_true rfl) (Nat.le_of_ble_eq_true rfl) ?_
        rw [show kk = K.length by omega] at hL
        exact ⟨rfl, L, hL.fin, rfl⟩
      · omega
    | succ d ih =>
      intro kk L hd hL
      have hkp : (M 1)[kk]? = some (M 1)[kk] := List.getElem?_eq_getElem (by omega)
      generalize (M 1)[kk] = p at hkp
      have kp := hM.kt hm (by decide) hkp
      rw [show (64 * ((1 : Nat) : Int) + (kk : Int)) = 64 + (kk : Int) by omega] at kp
      have hx : K[kk]? = some (ocL p.1) := by rw [hK, List.getElem?_map, hkp]; rfl
      have lx := ocL_len p.1
      have p8 := kp.2.2.2.1
      have lp := kp.2.1
      have inn : ∀ (a n : Nat) (L : List (List Int × Nat)), a + n = 2 * p.1.length + 1 → IL K kk n L → Z X 21 [some (aR m), some (aI w), some (aI (cnt w L)), some (aI (64 + (kk : Int))), some (aI (n : Int)), none, none] [] u 0 0 := by
        intro a
        induction a with
        | zero =>
          intro n L ha hL
          refine z_iload ho dX13_inner_21 rfl ?_
          refine z_iconst ho dX13_inner_23 ?_
          refine z_aload_n ho dX13_inner_24 rfl ?_
          refine gX13_22 ho dX13_inner_25 hm.1 (mget hm.r6 ?_)
          refine z_iload_n ho dX13_inner_28 rfl ?_
          refine z_iald ho dX13_inner_29 hm.k5 (by omega) (hm.t5 (by omega)) ?_
          refine z_imul ho dX13_inner_30 ?_
          refine z_icmp_gt (tgt := 170) ho dX13_inner_31 (by decide) (by unfold rng; omega) (by rw [lp]; unfold rng; omega) (fun c31 => ?_) (fun c31 => ?_)
          · 
            refine z_iinc ho dX13_inner_170 rfl rfl ?_
            refine z_goto (tgt := 5) ho dX13_inner_173 (by decide) ?_
            have nx := ih (kk + 1) L (by omega) (by refine IL.row ?_ hx; rw [lx, show 2 * p.1.length + 1 = n by omega]; exact hL)
            rw [show (64 + ((kk + 1 : Nat) : Int)) = 64 + (kk : Int) + 1 by omega] at nx
            refine z_wk ?_ nx
            exact ⟨rfl, rfl, rfl, rfl, trivial⟩
          · rw [lp] at c31; omega
        | succ a iha =>
          intro n L ha hL
          have t149 : ∀ (f b : Int), rng f → FanV K kk ((ocL p.1).take n) f → ((b = 0 ∧ ∀ m' : Nat, f = (m' : Int) → m' = 0 ∨ cls w m' = false) ∨ (b = 1 ∧ ∀ m' : Nat, f = (m' : Int) → 1 ≤ m' ∧ cls w m' = true)) → Z X 149 [some (aR m), some (aI w), some (aI (cnt w L)), some (aI (64 + (kk : Int))), some (aI (n : Int)), some (aI f), none] [aI b] u 0 0 := fun f b rf hf hb => by
            obtain ⟨L', hL', hr⟩ := hL.step hx (by rw [lx]; omega) hf
            have nx := iha (n + 1) L' (by omega) hL'
            have t162 : ∀ c : Int, cnt w L + c = cnt w L' → Z X 162 [some (aR m), some (aI w), some (aI (cnt w L)), some (aI (64 + (kk : Int))), some (aI (n : Int)), some (aI f), some (aI b)] [aI c, aI (cnt w L)] u 0 0 := fun c hc => by
              refine z_iadd ho dX13_inner_162 ?_
              refine z_istore_n ho dX13_inner_163 (Nat.le_of_ble_eq_true rfl) rfl ?_
              refine z_iinc ho dX13_inner_164 rfl rfl ?_
              refine z_goto (tgt := 21) ho dX13_inner_167 (by decide) ?_
              rw [hc]
              refine z_wk ?_ nx
              exact ⟨rfl, rfl, rfl, rfl, rfl, trivial⟩
            refine z_istore ho dX13_inner_149 (Nat.le_of_ble_eq_true rfl) rfl ?_
            refine z_iload_n ho dX13_inner_151 rfl ?_
            refine z_iload ho dX13_inner_152 rfl ?_
            refine z_if_eq (tgt := 161) ho dX13_inner_154 (by decide) (by rcases hb with ⟨z, -⟩ | ⟨z, -⟩ <;> rw [z] <;> unfold rng <;> omega) (fun c154 => ?_) (fun c154 => ?_)
            · have hb0 := (hb.resolve_right (fun z => by omega)).2
              refine z_iconst ho dX13_inner_161 ?_
              refine t162 0 ?_
              rcases hr with ⟨-, z⟩ | ⟨m', z1, z2, z3⟩
              · rw [z]; omega
              · rcases hb0 m' z2 with y | y
                · omega
                · rw [z3, (cnt_snoc w L _ m').2 y]; omega
            · have hb1 := (hb.resolve_left (fun z => c154 z.1)).2
              refine z_iconst ho dX13_inner_157 ?_
              refine z_goto (tgt := 162) ho dX13_inner_158 (by decide) ?_
              refine t162 1 ?_
              rcases hr with ⟨z1, z⟩ | ⟨m', z1, z2, z3⟩
              · have := (hb1 0 z1).1; omega
              · rw [z3, (cnt_snoc w L _ m').1 (hb1 m' z2).2]
          have cl : ∀ m' : Nat, (cls w m' = true ↔ (w = 0 ∨ (w = 1 ∧ m' ≤ 4) ∨ (w = 2 ∧ 4 < m' ∧ m' ≤ 16) ∨ (w = 3 ∧ 16 < m' ∧ m' ≤ 48) ∨ (w = 4 ∧ 48 < m'))) := fun m' => by unfold cls; exact decide_eq_true_iff
          have clf : ∀ m' : Nat, (cls w m' = false ↔ ¬ (w = 0 ∨ (w = 1 ∧ m' ≤ 4) ∨ (w = 2 ∧ 4 < m' ∧ m' ≤ 16) ∨ (w = 3 ∧ 16 < m' ∧ m' ≤ 48) ∨ (w = 4 ∧ 48 < m'))) := fun m' => by unfold cls; exact decide_eq_false_iff_not
          refine z_iload ho dX13_inner_21 rfl ?_
          refine z_iconst ho dX13_inner_23 ?_
          refine z_aload_n ho dX13_inner_24 rfl ?_
          refine gX13_22 ho dX13_inner_25 hm.1 (mget hm.r6 ?_)
          refine z_iload_n ho dX13_inner_28 rfl ?_
          refine z_iald ho dX13_inner_29 hm.k5 (by omega) (hm.t5 (by omega)) ?_
          refine z_imul ho dX13_inner_30 ?_
          refine z_icmp_gt (tgt := 170) ho dX13_inner_31 (by decide) (by unfold rng; omega) (by rw [lp]; unfold rng; omega) (fun c31 => ?_) (fun c31 => ?_)
          · rw [lp] at c31; omega
          · 
            refine z_aload_n ho dX13_inner_34 rfl ?_
            refine z_iload_n ho dX13_inner_35 rfl ?_
            refine z_iload ho dX13_inner_36 rfl ?_
            refine kX13_181 ho hN (c_fan _ _ hm hM hK hkp (by omega)) dX13_inner_38 hm.1 (Nat.le_of_ble_eq_true rfl) (Nat.le_of_ble_eq_true rfl) (Nat.le_of_ble_eq_true rfl) (Nat.le_of_ble_eq_true rfl) (fun x38 u38 h38 => ?_)
            obtain ⟨rfl, rf, hf⟩ := h38
            refine z_istore ho dX13_inner_41 (Nat.le_of_ble_eq_true rfl) rfl ?_
            refine z_iload_n ho dX13_inner_43 rfl ?_
            refine z_if_ne (tgt := 60) ho dX13_inner_44 (by decide) (by unfold rng; omega) (fun c44 => ?_) (fun c44 => ?_)
            · 
              refine z_iload_n ho dX13_inner_60 rfl ?_
              refine z_iconst ho dX13_inner_61 ?_
              refine z_icmp_ne (tgt := 84) ho dX13_inner_62 (by decide) (by unfold rng; omega) (by unfold rng; omega) (fun c62 => ?_) (fun c62 => ?_)
              · 
                refine z_iload_n ho dX13_inner_84 rfl ?_
                refine z_iconst ho dX13_inner_85 ?_
                refine z_icmp_ne (tgt := 110) ho dX13_inner_86 (by decide) (by unfold rng; omega) (by unfold rng; omega) (fun c86 => ?_) (fun c86 => ?_)
                · 
                  refine z_iload_n ho dX13_inner_110 rfl ?_
                  refine z_iconst ho dX13_inner_111 ?_
                  refine z_icmp_ne (tgt := 137) ho dX13_inner_112 (by decide) (by unfold rng; omega) (by unfold rng; omega) (fun c112 => ?_) (fun c112 => ?_)
                  · 
                    refine z_iload ho dX13_inner_137 rfl ?_
                    refine z_bipush ho dX13_inner_139 rfl ?_
                    refine z_icmp_le (tgt := 148) ho dX13_inner_141 (by decide) rf (by unfold rng; omega) (fun c141 => ?_) (fun c141 => ?_)
                    · 
                      refine z_iconst ho dX13_inner_148 ?_
                      exact t149 _ 0 rf hf (Or.inl ⟨rfl, fun m' hm' => Or.inr ((clf m').mpr (by omega))⟩)
                    · 
                      refine z_iconst ho dX13_inner_144 ?_
                      refine z_goto (tgt := 149) ho dX13_inner_145 (by decide) ?_
                      exact t149 _ 1 rf hf (Or.inr ⟨rfl, fun m' hm' => ⟨by omega, (cl m').mpr (by omega)⟩⟩)
                  · 
                    refine z_iload ho dX13_inner_115 rfl ?_
                    refine z_bipush ho dX13_inner_117 rfl ?_
                    refine z_icmp_le (tgt := 133) ho dX13_inner_119 (by decide) rf (by unfold rng; omega) (fun c119 => ?_) (fun c119 => ?_)
                    · 
                      refine z_iconst ho dX13_inner_133 ?_
                      refine z_goto (tgt := 149) ho dX13_inner_134 (by decide) ?_
                      exact t149 _ 0 rf hf (Or.inl ⟨rfl, fun m' hm' => Or.inr ((clf m').mpr (by omega))⟩)
                    · 
                      refine z_iload ho dX13_inner_122 rfl ?_
                      refine z_bipush ho dX13_inner_124 rfl ?_
                      refine z_icmp_gt (tgt := 133) ho dX13_inner_126 (by decide) rf (by unfold rng; omega) (fun c126 => ?_) (fun c126 => ?_)
                      · 
                        refine z_iconst ho dX13_inner_133 ?_
                        refine z_goto (tgt := 149) ho dX13_inner_134 (by decide) ?_
                        exact t149 _ 0 rf hf (Or.inl ⟨rfl, fun m' hm' => Or.inr ((clf m').mpr (by omega))⟩)
                      · 
                        refine z_iconst ho dX13_inner_129 ?_
                        refine z_goto (tgt := 149) ho dX13_inner_130 (by decide) ?_
                        exact t149 _ 1 rf hf (Or.inr ⟨rfl, fun m' hm' => ⟨by omega, (cl m').mpr (by omega)⟩⟩)
                · 
                  refine z_iload ho dX13_inner_89 rfl ?_
                  refine z_iconst ho dX13_inner_91 ?_
                  refine z_icmp_le (tgt := 106) ho dX13_inner_92 (by decide) rf (by unfold rng; omega) (fun c92 => ?_) (fun c92 => ?_)
                  · 
                    refine z_iconst ho dX13_inner_106 ?_
                    refine z_goto (tgt := 149) ho dX13_inner_107 (by decide) ?_
                    exact t149 _ 0 rf hf (Or.inl ⟨rfl, fun m' hm' => Or.inr ((clf m').mpr (by omega))⟩)
                  · 
                    refine z_iload ho dX13_inner_95 rfl ?_
                    refine z_bipush ho dX13_inner_97 rfl ?_
                    refine z_icmp_gt (tgt := 106) ho dX13_inner_99 (by decide) rf (by unfold rng; omega) (fun c99 => ?_) (fun c99 => ?_)
                    · 
                      refine z_iconst ho dX13_inner_106 ?_
                      refine z_goto (tgt := 149) ho dX13_inner_107 (by decide) ?_
                      exact t149 _ 0 rf hf (Or.inl ⟨rfl, fun m' hm' => Or.inr ((clf m').mpr (by omega))⟩)
                    · 
                      refine z_iconst ho dX13_inner_102 ?_
                      refine z_goto (tgt := 149) ho dX13_inner_103 (by decide) ?_
                      exact t149 _ 1 rf hf (Or.inr ⟨rfl, fun m' hm' => ⟨by omega, (cl m').mpr (by omega)⟩⟩)
              · 
                refine z_iload ho dX13_inner_65 rfl ?_
                refine z_if_le (tgt := 80) ho dX13_inner_67 (by decide) rf (fun c67 => ?_) (fun c67 => ?_)
                · 
                  refine z_iconst ho dX13_inner_80 ?_
                  refine z_goto (tgt := 149) ho dX13_inner_81 (by decide) ?_
                  exact t149 _ 0 rf hf (Or.inl ⟨rfl, fun m' hm' => Or.inl (by omega)⟩)
                · 
                  refine z_iload ho dX13_inner_70 rfl ?_
                  refine z_iconst ho dX13_inner_72 ?_
                  refine z_icmp_gt (tgt := 80) ho dX13_inner_73 (by decide) rf (by unfold rng; omega) (fun c73 => ?_) (fun c73 => ?_)
                  · 
                    refine z_iconst ho dX13_inner_80 ?_
                    refine z_goto (tgt := 149) ho dX13_inner_81 (by decide) ?_
                    exact t149 _ 0 rf hf (Or.inl ⟨rfl, fun m' hm' => Or.inr ((clf m').mpr (by omega))⟩)
                  · 
                    refine z_iconst ho dX13_inner_76 ?_
                    refine z_goto (tgt := 149) ho dX13_inner_77 (by decide) ?_
                    exact t149 _ 1 rf hf (Or.inr ⟨rfl, fun m' hm' => ⟨by omega, (cl m').mpr (by omega)⟩⟩)
            · 
              refine z_iload ho dX13_inner_47 rfl ?_
              refine z_if_le (tgt := 56) ho dX13_inner_49 (by decide) rf (fun c49 => ?_) (fun c49 => ?_)
              · 
                refine z_iconst ho dX13_inner_56 ?_
                refine z_goto (tgt := 149) ho dX13_inner_57 (by decide) ?_
                exact t149 _ 0 rf hf (Or.inl ⟨rfl, fun m' hm' => Or.inl (by omega)⟩)
              · 
                refine z_iconst ho dX13_inner_52 ?_
                refine z_goto (tgt := 149) ho dX13_inner_53 (by decide) ?_
                exact t149 _ 1 rf hf (Or.inr ⟨rfl, fun m' hm' => ⟨by omega, (cl m').mpr (by omega)⟩⟩)
      refine z_iload_n ho dX13_inner_5 rfl ?_
      refine z_bipush ho dX13_inner_6 rfl ?_
      refine z_aload_n ho dX13_inner_8 rfl ?_
      refine gX13_13 ho dX13_inner_9 hm.1 (mget hm.r3 ?_)
      refine z_iconst ho dX13_inner_12 ?_
      refine z_iald ho dX13_inner_13 hm.k2 (by omega) (hm.t2 (by omega)) ?_
      refine z_iadd ho dX13_inner_14 ?_
      refine z_icmp_ge (tgt := 176) ho dX13_inner_15 (by decide) (by unfold rng; omega) (by rw [g1]; unfold rng; omega) (fun c15 => ?_) (fun c15 => ?_)
      · omega
      · 
        refine z_iconst ho dX13_inner_18 ?_
        refine z_istore ho dX13_inner_19 (Nat.le_of_ble_eq_true rfl) rfl ?_
        exact inn (2 * p.1.length + 1) 0 L rfl hL
  refine z_iconst ho dX13_inner_0 ?_
  refine z_istore_n ho dX13_inner_1 (Nat.le_of_ble_eq_true rfl) rfl ?_
  refine z_bipush ho dX13_inner_2 rfl ?_
  refine z_istore_n ho dX13_inner_4 (Nat.le_of_ble_eq_true rfl) rfl ?_
  have k0 := key (M 1).length 0 [] rfl ⟨by simp, fun P m' => by
    constructor
    · intro z; simp at z
    · rintro ⟨-, k, x, h1, h2, h3, h4⟩; omega⟩
  exact k0
theorem c_medges1 (l : Launch) (u : Mem) {m N : Nat} {w : Int} {tp fd : List Int} {M : Nat → List KV} {ch : Nat → Int} {VL : List VS} {Ks : List (List Int)} {T : List Int} {Os : List (List Int)} (h : MS u m N tp fd M ch VL Ks T Os) (w0 : 0 ≤ w) (w5 : w < 5) : Mt_ l yX13_edges cX13_edges 4 (some .int) 4 0 0 [aR m, aI w] u (qI fun r v => qM m N u 0 tp fd M ch VL Ks T Os v ∧ ∃ L, Inns ((M 1).map (fun q => ocL q.1)) L ∧ r = cnt w L) := by
  have HQ : qM m N u 0 tp fd M ch VL Ks T Os (wI_ u m 0 0) := qM_raise h
  have hm := h.1
  refine Mt_of (by decide) (Nat.le_of_ble_eq_true rfl) (fun X ho hX hN hI => ?_)
  subst hX
  show Z X 0 [some (aR m), some (aI w), none, none] [] u 0 0
  refine z_iload_n ho dX13_edges_0 rfl ?_
  refine z_if_lt (tgt := 9) ho dX13_edges_1 (by decide) (by unfold rng; omega) (fun c1 => ?_) (fun c1 => ?_)
  · omega
  · 
    refine z_iload_n ho dX13_edges_4 rfl ?_
    refine z_iconst ho dX13_edges_5 ?_
    refine z_icmp_le (tgt := 15) ho dX13_edges_6 (by decide) (by unfold rng; omega) (by unfold rng; omega) (fun c6 => ?_) (fun c6 => ?_)
    · 
      refine z_aload_n ho dX13_edges_15 rfl ?_
      refine z_iconst ho dX13_edges_16 ?_
      refine pX13_99 ho dX13_edges_17 hm.1  ?_
      refine z_iload_n ho dX13_edges_20 rfl ?_
      refine z_iconst ho dX13_edges_21 ?_
      refine z_icmp_ge (tgt := 31) ho dX13_edges_22 (by decide) (by unfold rng; omega) (by unfold rng; omega) (fun c22 => ?_) (fun c22 => ?_)
      · omega
      · 
        refine z_aload_n ho dX13_edges_25 rfl ?_
        refine z_iload_n ho dX13_edges_26 rfl ?_
        refine kX13_187 ho hN (c_minner _ _ hm HQ.2.2.2.2.2.1 rfl w0 w5) dX13_edges_27 hm.1 (Nat.le_of_ble_eq_true rfl) (Nat.le_of_ble_eq_true rfl) (Nat.le_of_ble_eq_true rfl) (Nat.le_of_ble_eq_true rfl) (fun x27 u27 h27 => ?_)
        obtain ⟨rfl, L, l1, l2⟩ := h27
        refine r_I ho dX13_edges_30 (Nat.le_of_ble_eq_true rfl) (Nat.le_of_ble_eq_true rfl) ?_
        exact ⟨HQ, L, l1, l2⟩
    · omega
theorem c_medges0 (l : Launch) (u : Mem) {m N : Nat} {w : Int} {tp fd : List Int} {M : Nat → List KV} {ch : Nat → Int} {VL : List VS} {Ks : List (List Int)} {T : List Int} {Os : List (List Int)} (h : MS u m N tp fd M ch VL Ks T Os) (rw_ : rng w) (hn : ¬ (0 ≤ w ∧ w ≤ 5)) : Mt_ l yX13_edges cX13_edges 4 (some .int) 4 0 0 [aR m, aI w] u (qI fun r v => qM m N u 1 tp fd M ch VL Ks T Os v) := by
  have hm := h.1
  refine Mt_of (by decide) (Nat.le_of_ble_eq_true rfl) (fun X ho hX hN hI => ?_)
  subst hX
  show Z X 0 [some (aR m), some (aI w), none, none] [] u 0 0
  have bad : Z X 9 [some (aR m), some (aI w), none, none] [] u 0 0 := by
    refine z_aload_n ho dX13_edges_9 rfl ?_
    refine z_iconst ho dX13_edges_10 ?_
    refine kX13_126 ho hN (c_raise _ _ hm) dX13_edges_11 hm.1 (Nat.le_of_ble_eq_true rfl) (Nat.le_of_ble_eq_true rfl) (Nat.le_of_ble_eq_true rfl) (Nat.le_of_ble_eq_true rfl) (fun x11 u11 h11 => ?_)
    obtain ⟨rfl, rfl⟩ := h11
    refine r_I ho dX13_edges_14 (Nat.le_of_ble_eq_true rfl) (Nat.le_of_ble_eq_true rfl) ?_
    exact qM_raise h
  refine z_iload_n ho dX13_edges_0 rfl ?_
  refine z_if_lt (tgt := 9) ho dX13_edges_1 (by decide) rw_ (fun c1 => ?_) (fun c1 => ?_)
  · exact bad
  · 
    refine z_iload_n ho dX13_edges_4 rfl ?_
    refine z_iconst ho dX13_edges_5 ?_
    refine z_icmp_le (tgt := 15) ho dX13_edges_6 (by decide) rw_ (by unfold rng; omega) (fun c6 => ?_) (fun c6 => ?_)
    · omega
    · exact bad
theorem c_medges2 (l : Launch) (u : Mem) {m N : Nat} {tp fd : List Int} {M : Nat → List KV} {ch : Nat → Int} {VL : List VS} {Ks : List (List Int)} {T : List Int} {Os : List (List Int)} {L : List Int} (h : MS u m N tp fd M ch VL Ks T Os) (hn : (∃ p ∈ M 0, p.1 = tp) → L.Nodup ∧ ∀ i, i ∈ L ↔ ∃ p ∈ M 0, fdf p.1 tp i) : Mt_ l yX13_edges cX13_edges 4 (some .int) 4 0 0 [aR m, aI 5] u (qI fun r v => qM m N u 0 [] fd M ch VL Ks T Os v ∧ (((∀ p ∈ M 0, p.1 ≠ tp) ∧ r = -1) ∨ ((∃ p ∈ M 0, p.1 = tp) ∧ r = L.length))) := by
  have hm := h.1
  have e2 : iv_ (wI_ u m 0 0) m 2 = (tp.length : Int) := by rw [iv_wI, if_neg (by omega)]; exact h.2.1.1
  have HQ : qM m N u 0 [] fd M ch VL Ks T Os (wI_ (wI_ u m 0 0) m 2 0) := ⟨((Im.rf m u).w0 0 0).w0 2 0, by rw [iv_wI, if_neg (by omega), iv_wI, if_pos ⟨rfl, rfl⟩], h.cgt (((Cg.rf m u _ _).f 0 0 (by decide)).f 2 0 (by decide)) (by rw [iv_wI, if_pos ⟨rfl, rfl⟩])⟩
  have tt : TA (wI_ (wI_ u m 0 0) m 2 0) (m + 1) 0 tp := by
    obtain ⟨q1, q2, q3, q4, q5, q6⟩ := h.2.1.ta hm
    exact ⟨q1, q2, q3, by rw [ivf (by omega), ivf (by omega)]; exact q4, q5, q6⟩
  refine Mt_of (by decide) (Nat.le_of_ble_eq_true rfl) (fun X ho hX hN hI => ?_)
  subst hX
  show Z X 0 [some (aR m), some (aI  5), none, none] [] u 0 0
  refine z_iload_n ho dX13_edges_0 rfl ?_
  refine z_if_lt (tgt := 9) ho dX13_edges_1 (by decide) (by unfold rng; omega) (fun c1 => ?_) (fun c1 => ?_)
  · omega
  · 
    refine z_iload_n ho dX13_edges_4 rfl ?_
    refine z_iconst ho dX13_edges_5 ?_
    refine z_icmp_le (tgt := 15) ho dX13_edges_6 (by decide) (by unfold rng; omega) (by unfold rng; omega) (fun c6 => ?_) (fun c6 => ?_)
    · 
      refine z_aload_n ho dX13_edges_15 rfl ?_
      refine z_iconst ho dX13_edges_16 ?_
      refine pX13_99 ho dX13_edges_17 hm.1  ?_
      refine z_iload_n ho dX13_edges_20 rfl ?_
      refine z_iconst ho dX13_edges_21 ?_
      refine z_icmp_ge (tgt := 31) ho dX13_edges_22 (by decide) (by unfold rng; omega) (by unfold rng; omega) (fun c22 => ?_) (fun c22 => ?_)
      · 
        refine z_aload_n ho dX13_edges_31 rfl ?_
        refine gX13_102 ho dX13_edges_32 hm.1 ?_
        refine z_istore_n ho dX13_edges_35 (Nat.le_of_ble_eq_true rfl) rfl ?_
        rw [e2]
        have hko := c_keyOf (La_ X) (wI_ (wI_ u m 0 0) m 2 0) hm HQ.2.2.2.2.2.1 (i := 0) (by decide) tt
        refine z_aload_n ho dX13_edges_36 rfl ?_
        refine z_iconst ho dX13_edges_37 ?_
        refine pX13_102 ho dX13_edges_38 hm.1  ?_
        refine z_aload_n ho dX13_edges_41 rfl ?_
        refine z_iconst ho dX13_edges_42 ?_
        refine z_aload_n ho dX13_edges_43 rfl ?_
        refine gX13_7 ho dX13_edges_44 hm.1 (mget hm.r1 ?_)
        refine z_iconst ho dX13_edges_47 ?_
        refine z_iload_n ho dX13_edges_48 rfl ?_
        refine kX13_133 ho hN (hko) dX13_edges_49 hm.1 (Nat.le_of_ble_eq_true rfl) (Nat.le_of_ble_eq_true rfl) (Nat.le_of_ble_eq_true rfl) (Nat.le_of_ble_eq_true rfl) (fun x49 u49 h49 => ?_)
        obtain ⟨rfl, hk⟩ := h49
        refine z_istore_n ho dX13_edges_52 (Nat.le_of_ble_eq_true rfl) rfl ?_
        rcases hk with ⟨z1, z2⟩ | ⟨k, p, z1, z2, z3⟩
        · subst z1
          refine z_iload_n ho dX13_edges_53 rfl ?_
          refine z_iconst ho dX13_edges_54 ?_
          refine z_icmp_ne (tgt := 62) ho dX13_edges_55 (by decide) (by unfold rng; omega) (by unfold rng; omega) (fun c55 => ?_) (fun c55 => ?_)
          · exact absurd rfl c55
          · 
            refine z_iconst ho dX13_edges_58 ?_
            refine z_goto (tgt := 67) ho dX13_edges_59 (by decide) ?_
            refine r_I ho dX13_edges_67 (Nat.le_of_ble_eq_true rfl) (Nat.le_of_ble_eq_true rfl) ?_
            exact ⟨HQ, Or.inl ⟨z2, rfl⟩⟩
        · have hkl := (List.getElem?_eq_some_iff.mp z1).1
          have h40 := (HQ.2.2.2.2.2.1 0 (by decide)).2.2.1
          rw [show (64 * ((0 : Nat) : Int) + (k : Int)) = (k : Int) by omega] at z3
          subst z3
          have hex : ∃ p ∈ M 0, p.1 = tp := ⟨p, List.mem_of_getElem? z1, z2⟩
          obtain ⟨n1, n2⟩ := hn hex
          have hde := c_mdepth (La_ X) (wI_ (wI_ u m 0 0) m 2 0) hm HQ.2.2.2.2.2.1 z1 n1 (fun i => by rw [n2 i, z2])
          refine z_iload_n ho dX13_edges_53 rfl ?_
          refine z_iconst ho dX13_edges_54 ?_
          refine z_icmp_ne (tgt := 62) ho dX13_edges_55 (by decide) (by unfold rng; omega) (by unfold rng; omega) (fun c55 => ?_) (fun c55 => ?_)
          · 
            refine z_aload_n ho dX13_edges_62 rfl ?_
            refine z_iload_n ho dX13_edges_63 rfl ?_
            refine kX13_190 ho hN (hde) dX13_edges_64 hm.1 (Nat.le_of_ble_eq_true rfl) (Nat.le_of_ble_eq_true rfl) (Nat.le_of_ble_eq_true rfl) (Nat.le_of_ble_eq_true rfl) (fun x64 u64 h64 => ?_)
            obtain ⟨g1, g2⟩ := h64
            refine r_I ho dX13_edges_67 (Nat.le_of_ble_eq_true rfl) (Nat.le_of_ble_eq_true rfl) ?_
            exact ⟨⟨HQ.1.tr g1.1, by rw [g1.2.1 0 (by decide)]; exact HQ.2.1, HQ.2.2.cgc (g1.mono (by decide) (by decide))⟩, Or.inr ⟨hex, g2⟩⟩
          · omega
      · omega
    · omega
