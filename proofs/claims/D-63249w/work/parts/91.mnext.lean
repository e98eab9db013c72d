set_option maxRecDepth 100000
/-! ===== KeyHallModel: at, poll, stale, next, drop ===== -/
theorem AtR.cnt {vs : VS} {L : List KV} : ∀ (n : Nat) (p q : KV), AtR vs L n (some p) (some q) → p ∈ L → vs.2.1 p.1 → ∃ C : List KV, C.length = n + 1 ∧ C.Pairwise (fun a b => ltW vs.2.2.1 a.1 b.1) ∧ (∀ c ∈ C, c ∈ L ∧ vs.2.1 c.1) ∧ ∀ c ∈ C, c = p ∨ ltW vs.2.2.1 p.1 c.1 := by
  intro n
  induction n with
  | zero => intro p q h hp hR; exact ⟨[p], rfl, by simp, fun c hc => by rw [List.mem_singleton.mp hc]; exact ⟨hp, hR⟩, fun c hc => Or.inl (List.mem_singleton.mp hc)⟩
  | succ n ih =>
    intro p q h hp hR
    obtain ⟨q1, h1, h2⟩ := h
    rcases h1.toW.2 with ⟨z, -⟩ | ⟨p1, z1, z2, ⟨z3, z4⟩, -⟩
    · rw [z] at h2
      cases n with
      | zero => cases h2
      | succ n => cases h2
    · rw [z1] at h2
      obtain ⟨C, c1, c2, c3, c4⟩ := ih p1 q h2 z2 z3
      have hlt : ltW vs.2.2.1 p.1 p1.1 := by
        rcases z4 p.1 rfl with y | y
        · exact y
        · exact absurd y.1 (by decide)
      have all : ∀ c ∈ C, ltW vs.2.2.1 p.1 c.1 := fun c hc => by
        rcases c4 c hc with y | y
        · rw [y]; exact hlt
        · exact hlt.tr y
      refine ⟨p :: C, by rw [List.length_cons, c1], List.pairwise_cons.mpr ⟨all, c2⟩, fun c hc => ?_, fun c hc => ?_⟩
      · rcases List.mem_cons.mp hc with y | y
        · rw [y]; exact ⟨hp, hR⟩
        · exact c3 c y
      · rcases List.mem_cons.mp hc with y | y
        · exact Or.inl y
        · exact Or.inr (all c y)
/-- a number that is too great -/
theorem AtS.none {vs : VS} {k : Int} {L : List KV} {q : Option KV} (h : AtS vs k L q) (hk : k < 0 ∨ (cntV vs.2.1 L : Int) ≤ k) : q = none := by
  rcases h with h | ⟨h0, q0, h1, h2⟩
  · exact h.2
  · rcases q with _ | q
    · rfl
    · exfalso
      rcases h1.toW.2 with ⟨z, -⟩ | ⟨p, z1, z2, ⟨z3, -⟩, -⟩
      · rw [z] at h2
        generalize k.toNat = n at h2
        cases n with
        | zero => cases h2
        | succ n => cases h2
      · rw [z1] at h2
        obtain ⟨C, c1, c2, c3, -⟩ := AtR.cnt _ p q h2 z2 z3
        have hnd : C.Nodup := c2.imp (fun {a b} hab e => by rw [e] at hab; exact hab.irr)
        have hle := List.Nodup.length_le_of_subset hnd (l₂ := L.filter (fun kv => @decide (vs.2.1 kv.1) (Classical.propDecidable _))) (fun c hc => List.mem_filter.mpr ⟨(c3 c hc).1, by simpa using (c3 c hc).2⟩)
        unfold cntV at hk
        omega
theorem rng_cnt {u : Mem} {m N : Nat} {i r : Int} {tp fd : List Int} {M : Nat → List KV} {ch : Nat → Int} {VL : List VS} {Ks : List (List Int)} {T : List Int} {Os : List (List Int)} (h : MS u m N tp fd M ch VL Ks T Os) (hr : (¬ (0 ≤ i ∧ i < VL.length) ∧ r = -1) ∨ (∃ vs, 0 ≤ i ∧ VL[i.toNat]? = some vs ∧ r = (cntV vs.2.1 (M vs.1) : Nat))) : rng r := by
  rcases hr with ⟨-, z⟩ | ⟨vs, -, z1, z⟩
  · rw [z]; unfold rng; omega
  · have v3 := (h.2.2.2.2.1.2.2 _ vs z1).1
    have := (h.2.2.2.1 vs.1 v3).2.2.1
    have l : cntV vs.2.1 (M vs.1) ≤ (M vs.1).length := by unfold cntV; exact List.length_filter_le _ _
    rw [z]; unfold rng; omega
theorem c_mat (l : Launch) (u : Mem) {m N : Nat} {i k : Int} {tp fd : List Int} {M : Nat → List KV} {ch : Nat → Int} {VL : List VS} {Ks : List (List Int)} {T : List Int} {Os : List (List Int)} {Q0 : VS → Option KV} (h : MS u m N tp fd M ch VL Ks T Os) (ri : rng i) (rk : rng k) (hq : ∀ vs, 0 ≤ i → VL[i.toNat]? = some vs → AtS vs k (M vs.1) (Q0 vs)) :
    Mt_ l yX13_at cX13_at 5 (some .int) 5 0 0 [aR m, aI i, aI k] u (qI fun r v => (¬ (0 ≤ i ∧ i < VL.length) ∧ qM m N u 1 tp fd M ch VL Ks T Os v) ∨ (∃ vs, 0 ≤ i ∧ VL[i.toNat]? = some vs ∧ ((Q0 vs = none ∧ qM m N u 2 tp fd M ch VL Ks T Os v) ∨ (∃ p, Q0 vs = some p ∧ r = p.2 ∧ qM m N u 0 tp p.1 M ch VL Ks T Os v)))) := by
  have hm := h.1
  have h8 := h.2.2.2.2.1.1
  have h12 := h.2.2.2.2.1.2.1
  refine Mt_of (by decide) (Nat.le_of_ble_eq_true rfl) (fun X ho hX hN hI => ?_)
  subst hX
  show Z X 0 [some (aR m), some (aI i), some (aI k), none, none] [] u 0 0
  refine z_aload_n ho dX13_at_0 rfl ?_
  refine z_iload_n ho dX13_at_1 rfl ?_
  refine kX13_122 ho hN (c_isView _ _ hm h8 h12 ri) dX13_at_2 hm.1 (Nat.le_of_ble_eq_true rfl) (Nat.le_of_ble_eq_true rfl) (Nat.le_of_ble_eq_true rfl) (Nat.le_of_ble_eq_true rfl) (fun x2 u2 h2 => ?_)
  obtain ⟨rfl, hs⟩ := h2
  refine z_if_ne (tgt := 14) ho dX13_at_5 (by decide) (by rcases hs with ⟨z, -⟩ | ⟨z, -⟩ <;> rw [z] <;> unfold rng <;> omega) (fun c5 => ?_) (fun c5 => ?_)
  · have hin := (hs.resolve_right (fun z => c5 z.1)).2
    have hvs : VL[i.toNat]? = some VL[i.toNat] := List.getElem?_eq_getElem (by omega)
    generalize VL[i.toNat] = vs at hvs
    have ei : (i.toNat : Int) = i := Int.toNat_of_nonneg hin.1
    have v3 := (h.2.2.2.2.1.2.2 _ vs hvs).1
    have hf := hq vs hin.1 hvs
    -- the end, for a memory that is u or u with the code 0
    have fin : ∀ (w : Mem) (e n : Int), Im m u w → MS w m N tp fd M ch VL Ks T Os → isK (M vs.1) (64 * (vs.1 : Int)) e (Q0 vs) → Z X 87 [some (aR m), some (aI i), some (aI k), some (aI e), some (aI n)] [] w 0 0 := fun w e n hI hw hk => by
      have hm := hw.1
      refine z_aload_n ho dX13_at_87 rfl ?_
      refine z_iload_n ho dX13_at_88 rfl ?_
      refine z_iconst ho dX13_at_89 ?_
      refine kX13_161 ho hN (c_mtell _ _ hw v3 hk) dX13_at_90 hm.1 (Nat.le_of_ble_eq_true rfl) (Nat.le_of_ble_eq_true rfl) (Nat.le_of_ble_eq_true rfl) (Nat.le_of_ble_eq_true rfl) (fun x90 u90 h90 => ?_)
      refine r_I ho dX13_at_93 (Nat.le_of_ble_eq_true rfl) (Nat.le_of_ble_eq_true rfl) ?_
      refine Or.inr ⟨vs, hin.1, hvs, ?_⟩
      rcases h90 with ⟨z1, -, z2⟩ | ⟨p, z1, z2, z3, -⟩
      · exact Or.inl ⟨z1, hI.tr z2.1, z2.2⟩
      · exact Or.inr ⟨p, z1, z2, hI.tr z3.1, z3.2⟩
    have no : ∀ (w : Mem), Im m u w → MS w m N tp fd M ch VL Ks T Os → Q0 vs = none → Z X 27 [some (aR m), some (aI i), some (aI k), none, none] [] w 0 0 := fun w hI hw hn => by
      have hm := hw.1
      unfold rng at rk
      refine z_iconst ho dX13_at_27 ?_
      refine z_goto (tgt := 44) ho dX13_at_28 (by decide) ?_
      refine z_istore_n ho dX13_at_44 (Nat.le_of_ble_eq_true rfl) rfl ?_
      refine z_iconst ho dX13_at_45 ?_
      refine z_istore ho dX13_at_46 (Nat.le_of_ble_eq_true rfl) rfl ?_
      refine z_iload ho dX13_at_48 rfl ?_
      refine z_iload_n ho dX13_at_50 rfl ?_
      refine z_icmp_ge (tgt := 87) ho dX13_at_51 (by decide) (by unfold rng; omega) (by unfold rng; omega) (fun c51 => ?_) (fun c51 => ?_)
      · exact fin w _ _ hI hw (Or.inl ⟨hn, rfl⟩)
      · 
        refine z_iload_n ho dX13_at_54 rfl ?_
        refine z_iconst ho dX13_at_55 ?_
        refine z_icmp_eq (tgt := 87) ho dX13_at_56 (by decide) (by unfold rng; omega) (by unfold rng; omega) (fun c56 => ?_) (fun c56 => ?_)
        · exact fin w _ _ hI hw (Or.inl ⟨hn, rfl⟩)
        · exact absurd rfl c56
    have hsz := c_msize (La_ X) u h ri
    refine z_iload_n ho dX13_at_14 rfl ?_
    refine z_if_lt (tgt := 27) ho dX13_at_15 (by decide) rk (fun c15 => ?_) (fun c15 => ?_)
    · exact no u (Im.rf m u) h (hf.none (Or.inl c15))
    · 
      refine z_iload_n ho dX13_at_18 rfl ?_
      refine z_aload_n ho dX13_at_19 rfl ?_
      refine z_iload_n ho dX13_at_20 rfl ?_
      refine kX13_168 ho hN (hsz) dX13_at_21 hm.1 (Nat.le_of_ble_eq_true rfl) (Nat.le_of_ble_eq_true rfl) (Nat.le_of_ble_eq_true rfl) (Nat.le_of_ble_eq_true rfl) (fun x21 u21 h21 => ?_)
      obtain ⟨rfl, HQ, hr⟩ := h21
      refine z_icmp_lt (tgt := 31) ho dX13_at_24 (by decide) rk (rng_cnt h hr) (fun c24 => ?_) (fun c24 => ?_)
      · obtain ⟨vs', r1, r2, r3⟩ := hr.resolve_left (fun z => z.1 hin)
        rw [hvs] at r2
        cases r2
        have hm := HQ.2.2.1
        have I0 := HQ.1
        have near : ∀ (sm at_ mm : Int) (b : Nat) (o : Option (List Int)) (q : Option KV), (sm = 0 ∨ sm = 1) → TxO (wI_ u m 0 0) b at_ mm o → Nr vs.2.2.1 vs.2.1 o (1 - sm) (M vs.1) q → Mt_ (La_ X) yX13_nearest cX13_nearest 13 (some .int) 4 0 0 [aR m, aI i, aI 1, aI sm, aR b, aI at_, aI mm] (wI_ u m 0 0) (qI fun r w => wI_ u m 0 0 = w ∧ isK (M vs.1) (64 * (vs.1 : Int)) r q) := fun sm at_ mm b o q y2 y3 y4 => by
          have := c_mnear (La_ X) (wI_ u m 0 0) hm HQ.2.2.2.2.2.2.1 HQ.2.2.2.2.2.1 hvs (bh := 1) (Or.inr rfl) y2 y3 (by rw [if_pos rfl]; exact y4)
          rw [ei] at this
          exact this
        rcases hf with ⟨z, -⟩ | ⟨z, q0, hN0, hA⟩
        · omega
        have key : ∀ (d : Nat) (n e : Int) (q : Option KV), 0 ≤ n → n ≤ k → (k - n).toNat = d → isK (M vs.1) (64 * (vs.1 : Int)) e q → AtR vs (M vs.1) d q (Q0 vs) → Z X 48 [some (aR m), some (aI i), some (aI k), some (aI e), some (aI n)] [] (wI_ u m 0 0) 0 0 := by
          intro d
          induction d with
          | zero =>
            intro n e q n0 n1 hd hk hA
            cases hA
            unfold rng at rk
            refine z_iload ho dX13_at_48 rfl ?_
            refine z_iload_n ho dX13_at_50 rfl ?_
            refine z_icmp_ge (tgt := 87) ho dX13_at_51 (by decide) (by unfold rng; omega) (by unfold rng; omega) (fun c51 => ?_) (fun c51 => ?_)
            · exact fin _ _ _ I0 HQ.2.2 hk
            · omega
          | succ d ih =>
            intro n e q n0 n1 hd hk hA
            unfold rng at rk
            rcases hk with ⟨y1, y2⟩ | ⟨k', p, y1, y2, y3⟩
            · subst y2
              refine z_iload ho dX13_at_48 rfl ?_
              refine z_iload_n ho dX13_at_50 rfl ?_
              refine z_icmp_ge (tgt := 87) ho dX13_at_51 (by decide) (by unfold rng; omega) (by unfold rng; omega) (fun c51 => ?_) (fun c51 => ?_)
              · omega
              · 
                refine z_iload_n ho dX13_at_54 rfl ?_
                refine z_iconst ho dX13_at_55 ?_
                refine z_icmp_eq (tgt := 87) ho dX13_at_56 (by decide) (by unfold rng; omega) (by unfold rng; omega) (fun c56 => ?_) (fun c56 => ?_)
                · rw [y1] at hA
                  exact fin _ _ _ I0 HQ.2.2 (Or.inl ⟨hA, rfl⟩)
                · exact absurd rfl c56
            · subst y3
              rw [y1] at hA
              obtain ⟨q1, hN1, hA1⟩ := hA
              obtain ⟨w1, w2, w3, w4, w5, w6⟩ := HQ.2.2.2.2.2.1.key hm v3 y2
              refine z_iload ho dX13_at_48 rfl ?_
              refine z_iload_n ho dX13_at_50 rfl ?_
              refine z_icmp_ge (tgt := 87) ho dX13_at_51 (by decide) (by unfold rng; omega) (by unfold rng; omega) (fun c51 => ?_) (fun c51 => ?_)
              · omega
              · 
                refine z_iload_n ho dX13_at_54 rfl ?_
                refine z_iconst ho dX13_at_55 ?_
                refine z_icmp_eq (tgt := 87) ho dX13_at_56 (by decide) (by unfold rng; omega) (by unfold rng; omega) (fun c56 => ?_) (fun c56 => ?_)
                · omega
                · 
                  refine z_aload_n ho dX13_at_59 rfl ?_
                  refine z_iload_n ho dX13_at_60 rfl ?_
                  refine z_iconst ho dX13_at_61 ?_
                  refine z_iconst ho dX13_at_62 ?_
                  refine z_aload_n ho dX13_at_63 rfl ?_
                  refine gX13_19 ho dX13_at_64 hm.1 (mget hm.r5 ?_)
                  refine z_bipush ho dX13_at_67 rfl ?_
                  refine z_iload_n ho dX13_at_69 rfl ?_
                  refine z_imul ho dX13_at_70 ?_
                  refine z_aload_n ho dX13_at_71 rfl ?_
                  refine gX13_22 ho dX13_at_72 hm.1 (mget hm.r6 ?_)
                  refine z_iload_n ho dX13_at_75 rfl ?_
                  refine z_iald ho dX13_at_76 hm.k5 (by omega) (hm.t5 (by omega)) ?_
                  rw [w1]
                  refine kX13_157 ho hN (near 0 _ _ (m + 4) (some p.1) q1 (Or.inl rfl) (Or.inr ⟨p.1, rfl, w2, rfl⟩) hN1) dX13_at_77 hm.1 (Nat.le_of_ble_eq_true rfl) (Nat.le_of_ble_eq_true rfl) (Nat.le_of_ble_eq_true rfl) (Nat.le_of_ble_eq_true rfl) (fun x77 u77 h77 => ?_)
                  obtain ⟨rfl, hk1⟩ := h77
                  refine z_istore_n ho dX13_at_80 (Nat.le_of_ble_eq_true rfl) rfl ?_
                  refine z_iinc ho dX13_at_81 rfl rfl ?_
                  refine z_goto (tgt := 48) ho dX13_at_84 (by decide) ?_
                  exact ih (n + 1) _ q1 (by omega) (by omega) (by omega) hk1 hA1
        refine z_aload_n ho dX13_at_31 rfl ?_
        refine z_iload_n ho dX13_at_32 rfl ?_
        refine z_iconst ho dX13_at_33 ?_
        refine z_iconst ho dX13_at_34 ?_
        refine z_aload_n ho dX13_at_35 rfl ?_
        refine gX13_7 ho dX13_at_36 hm.1 (mget hm.r1 ?_)
        refine z_iconst ho dX13_at_39 ?_
        refine z_iconst ho dX13_at_40 ?_
        refine kX13_157 ho hN (near 1 0 (-1) (m + 1) none q0 (Or.inr rfl) (Or.inl ⟨rfl, rfl⟩) hN0) dX13_at_41 hm.1 (Nat.le_of_ble_eq_true rfl) (Nat.le_of_ble_eq_true rfl) (Nat.le_of_ble_eq_true rfl) (Nat.le_of_ble_eq_true rfl) (fun x41 u41 h41 => ?_)
        obtain ⟨rfl, hk0⟩ := h41
        refine z_istore_n ho dX13_at_44 (Nat.le_of_ble_eq_true rfl) rfl ?_
        refine z_iconst ho dX13_at_45 ?_
        refine z_istore ho dX13_at_46 (Nat.le_of_ble_eq_true rfl) rfl ?_
        exact key k.toNat 0 _ q0 (by omega) (by omega) (by omega) hk0 hA
      · obtain ⟨vs', r1, r2, r3⟩ := hr.resolve_left (fun z => z.1 hin)
        rw [hvs] at r2
        cases r2
        exact no _ HQ.1 HQ.2.2 (hf.none (Or.inr (by omega)))
  · 
    refine z_aload_n ho dX13_at_8 rfl ?_
    refine z_iconst ho dX13_at_9 ?_
    refine kX13_126 ho hN (c_raise _ _ hm) dX13_at_10 hm.1 (Nat.le_of_ble_eq_true rfl) (Nat.le_of_ble_eq_true rfl) (Nat.le_of_ble_eq_true rfl) (Nat.le_of_ble_eq_true rfl) (fun x10 u10 h10 => ?_)
    obtain ⟨rfl, rfl⟩ := h10
    refine r_I ho dX13_at_13 (Nat.le_of_ble_eq_true rfl) (Nat.le_of_ble_eq_true rfl) ?_
    exact Or.inl ⟨(hs.resolve_left (fun z => by omega)).2, qM_raise h⟩
theorem c_mpoll (l : Launch) (u : Mem) {m N : Nat} {i la : Int} {tp fd : List Int} {M : Nat → List KV} {ch : Nat → Int} {VL : List VS} {Ks : List (List Int)} {T : List Int} {Os : List (List Int)} {Q0 : VS → Option KV} (h : MS u m N tp fd M ch VL Ks T Os) (ri : rng i) (hla : la = 0 ∨ la = 1) (hc : ∀ k, k < 3 → ch k < 1000000) (hq : ∀ vs, 0 ≤ i → VL[i.toNat]? = some vs → Nr (pW vs la) vs.2.1 none 0 (M vs.1) (Q0 vs)) :
    Mt_ l yX13_poll cX13_poll 5 (some .int) 5 0 0 [aR m, aI i, aI la] u (qI fun r v => (¬ (0 ≤ i ∧ i < VL.length) ∧ qM m N u 1 tp fd M ch VL Ks T Os v) ∨ (∃ vs, 0 ≤ i ∧ VL[i.toNat]? = some vs ∧ ((Q0 vs = none ∧ qM m N u 2 tp fd M ch VL Ks T Os v) ∨ (∃ p A B, Q0 vs = some p ∧ r = p.2 ∧ M vs.1 = A ++ p :: B ∧ qM m N u 0 tp p.1 (fun k => if k = vs.1 then swp A B else M k) (fun k => if k = vs.1 then ch vs.1 + 1 else ch k) VL Ks T Os v)))) := by
  have hm := h.1
  have h8 := h.2.2.2.2.1.1
  have h12 := h.2.2.2.2.1.2.1
  refine Mt_of (by decide) (Nat.le_of_ble_eq_true rfl) (fun X ho hX hN hI => ?_)
  subst hX
  show Z X 0 [some (aR m), some (aI i), some (aI la), none, none] [] u 0 0
  refine z_aload_n ho dX13_poll_0 rfl ?_
  refine z_iload_n ho dX13_poll_1 rfl ?_
  refine kX13_122 ho hN (c_isView _ _ hm h8 h12 ri) dX13_poll_2 hm.1 (Nat.le_of_ble_eq_true rfl) (Nat.le_of_ble_eq_true rfl) (Nat.le_of_ble_eq_true rfl) (Nat.le_of_ble_eq_true rfl) (fun x2 u2 h2 => ?_)
  obtain ⟨rfl, hs⟩ := h2
  refine z_if_ne (tgt := 14) ho dX13_poll_5 (by decide) (by rcases hs with ⟨z, -⟩ | ⟨z, -⟩ <;> rw [z] <;> unfold rng <;> omega) (fun c5 => ?_) (fun c5 => ?_)
  · have hin := (hs.resolve_right (fun z => c5 z.1)).2
    have hvs : VL[i.toNat]? = some VL[i.toNat] := List.getElem?_eq_getElem (by omega)
    generalize VL[i.toNat] = vs at hvs
    have ei : (i.toNat : Int) = i := Int.toNat_of_nonneg hin.1
    have v3 := (h.2.2.2.2.1.2.2 _ vs hvs).1
    have hf := hq vs hin.1 hvs
    have fin : ∀ (e : Int), isK (M vs.1) (64 * (vs.1 : Int)) e (Q0 vs) → Z X 35 [some (aR m), some (aI i), some (aI la), none, none] [aI e] u 0 0 := fun e hk => by
      refine z_istore_n ho dX13_poll_35 (Nat.le_of_ble_eq_true rfl) rfl ?_
      refine z_aload_n ho dX13_poll_36 rfl ?_
      refine z_iload_n ho dX13_poll_37 rfl ?_
      refine z_iconst ho dX13_poll_38 ?_
      refine kX13_161 ho hN (c_mtell _ _ h v3 hk) dX13_poll_39 hm.1 (Nat.le_of_ble_eq_true rfl) (Nat.le_of_ble_eq_true rfl) (Nat.le_of_ble_eq_true rfl) (Nat.le_of_ble_eq_true rfl) (fun x39 u39 h39 => ?_)
      rcases h39 with ⟨z1, z0, z2⟩ | ⟨p, z1, z0, z2, z3⟩
      · subst z0
        have hm := z2.2.2.1
        refine z_istore ho dX13_poll_42 (Nat.le_of_ble_eq_true rfl) rfl ?_
        refine z_aload_n ho dX13_poll_44 rfl ?_
        refine gX13_99 ho dX13_poll_45 hm.1 ?_
        refine z_if_ne (tgt := 61) ho dX13_poll_48 (by decide) (by rw [z2.2.1]; unfold rng; omega) (fun c48 => ?_) (fun c48 => ?_)
        · 
          refine z_iload ho dX13_poll_61 rfl ?_
          refine r_I ho dX13_poll_63 (Nat.le_of_ble_eq_true rfl) (Nat.le_of_ble_eq_true rfl) ?_
          exact Or.inr ⟨vs, hin.1, hvs, Or.inl ⟨z1, z2⟩⟩
        · exact absurd (z2.2.1.symm.trans c48) (by decide)
      · obtain ⟨k', p', y1, y2, y3⟩ := hk.resolve_left (fun z => by rw [z1] at z; cases z.1)
        rw [z1] at y1
        cases y1
        subst y3
        have hm := z2.2.2.1
        have hkl := (List.getElem?_eq_some_iff.mp y2).1
        have hmo := c_mapOf (La_ X) u39 hm z2.2.2.2.2.2.2.1 hvs
        rw [ei] at hmo
        refine z_istore ho dX13_poll_42 (Nat.le_of_ble_eq_true rfl) rfl ?_
        refine z_aload_n ho dX13_poll_44 rfl ?_
        refine gX13_99 ho dX13_poll_45 hm.1 ?_
        refine z_if_ne (tgt := 61) ho dX13_poll_48 (by decide) (by rw [z2.2.1]; unfold rng; omega) (fun c48 => ?_) (fun c48 => ?_)
        · exact absurd z2.2.1 c48
        · 
          refine z_aload_n ho dX13_poll_51 rfl ?_
          refine z_aload_n ho dX13_poll_52 rfl ?_
          refine z_iload_n ho dX13_poll_53 rfl ?_
          refine kX13_114 ho hN (hmo) dX13_poll_54 hm.1 (Nat.le_of_ble_eq_true rfl) (Nat.le_of_ble_eq_true rfl) (Nat.le_of_ble_eq_true rfl) (Nat.le_of_ble_eq_true rfl) (fun x54 u54 h54 => ?_)
          obtain ⟨rfl, rfl⟩ := h54
          refine z_iload_n ho dX13_poll_57 rfl ?_
          refine kX13_139 ho hN (c_clear _ _ z2.2.2 v3 hkl) dX13_poll_58 hm.1 (Nat.le_of_ble_eq_true rfl) (Nat.le_of_ble_eq_true rfl) (Nat.le_of_ble_eq_true rfl) (Nat.le_of_ble_eq_true rfl) (fun u58 h58 => ?_)
          obtain ⟨g1, g2⟩ := h58
          refine z_iload ho dX13_poll_61 rfl ?_
          refine r_I ho dX13_poll_63 (Nat.le_of_ble_eq_true rfl) (Nat.le_of_ble_eq_true rfl) ?_
          obtain ⟨a1, a2, a3, a4, a5, a6, a7, a8, a9⟩ := z2.2.2
          exact Or.inr ⟨vs, hin.1, hvs, Or.inr ⟨p, _, _, z1, z0, take_drop_cons y2, z2.1.tr g1.1, by rw [g1.2.1 0 (by decide)]; exact z2.2.1, a1.im g1.1, a2.cg g1 (by decide) (by decide), a3.cg g1 (by decide) (by decide), g2, a5.cg g1 (by decide) (by decide), a6.cg g1 (by decide), a7.cg g1 (by decide) (by decide), a8.cg g1 (by decide) (by decide), rg_upd a9 (hc vs.1 v3) v3⟩⟩
    have near : ∀ (bh : Int), (bh = 0 ∨ bh = 1) → bh = 1 - la → Mt_ (La_ X) yX13_nearest cX13_nearest 13 (some .int) 4 0 0 [aR m, aI i, aI bh, aI 1, aR (m + 1), aI 0, aI (-1)] u (qI fun r w => u = w ∧ isK (M vs.1) (64 * (vs.1 : Int)) r (Q0 vs)) := fun bh y1 y2 => by
      have := c_mnear (La_ X) u hm h.2.2.2.2.1 h.2.2.2.1 hvs (bh := bh) (sm := 1) (b := m + 1) (at_ := 0) (mm := -1) (o := none) y1 (Or.inr rfl) (Or.inl ⟨rfl, rfl⟩) (by
        unfold pW at hf
        by_cases z : la = 0
        · rw [if_pos z] at hf
          rw [if_pos (by omega)]
          exact hf
        · rw [if_neg z] at hf
          rw [if_neg (by omega)]
          exact hf)
      rw [ei] at this
      exact this
    refine z_aload_n ho dX13_poll_14 rfl ?_
    refine z_iload_n ho dX13_poll_15 rfl ?_
    refine z_iload_n ho dX13_poll_16 rfl ?_
    refine z_if_ne (tgt := 24) ho dX13_poll_17 (by decide) (by unfold rng; omega) (fun c17 => ?_) (fun c17 => ?_)
    · 
      refine z_iconst ho dX13_poll_24 ?_
      refine z_iconst ho dX13_poll_25 ?_
      refine z_aload_n ho dX13_poll_26 rfl ?_
      refine gX13_7 ho dX13_poll_27 hm.1 (mget hm.r1 ?_)
      refine z_iconst ho dX13_poll_30 ?_
      refine z_iconst ho dX13_poll_31 ?_
      refine kX13_157 ho hN (near 0 (Or.inl rfl) (by omega)) dX13_poll_32 hm.1 (Nat.le_of_ble_eq_true rfl) (Nat.le_of_ble_eq_true rfl) (Nat.le_of_ble_eq_true rfl) (Nat.le_of_ble_eq_true rfl) (fun x32 u32 h32 => ?_)
      obtain ⟨rfl, hk⟩ := h32
      exact fin _ hk
    · 
      refine z_iconst ho dX13_poll_20 ?_
      refine z_goto (tgt := 25) ho dX13_poll_21 (by decide) ?_
      refine z_iconst ho dX13_poll_25 ?_
      refine z_aload_n ho dX13_poll_26 rfl ?_
      refine gX13_7 ho dX13_poll_27 hm.1 (mget hm.r1 ?_)
      refine z_iconst ho dX13_poll_30 ?_
      refine z_iconst ho dX13_poll_31 ?_
      refine kX13_157 ho hN (near 1 (Or.inr rfl) (by omega)) dX13_poll_32 hm.1 (Nat.le_of_ble_eq_true rfl) (Nat.le_of_ble_eq_true rfl) (Nat.le_of_ble_eq_true rfl) (Nat.le_of_ble_eq_true rfl) (fun x32 u32 h32 => ?_)
      obtain ⟨rfl, hk⟩ := h32
      exact fin _ hk
  · 
    refine z_aload_n ho dX13_poll_8 rfl ?_
    refine z_iconst ho dX13_poll_9 ?_
    refine kX13_126 ho hN (c_raise _ _ hm) dX13_poll_10 hm.1 (Nat.le_of_ble_eq_true rfl) (Nat.le_of_ble_eq_true rfl) (Nat.le_of_ble_eq_true rfl) (Nat.le_of_ble_eq_true rfl) (fun x10 u10 h10 => ?_)
    obtain ⟨rfl, rfl⟩ := h10
    refine r_I ho dX13_poll_13 (Nat.le_of_ble_eq_true rfl) (Nat.le_of_ble_eq_true rfl) ?_
    exact Or.inl ⟨(hs.resolve_left (fun z => by omega)).2, qM_raise h⟩
theorem c_stale (l : Launch) (u : Mem) {m N j : Nat} {tp fd : List Int} {M : Nat → List KV} {ch : Nat → Int} {VL : List VS} {Ks : List (List Int)} {T : List Int} {Os : List (List Int)} {vs : VS} (h : MS u m N tp fd M ch VL Ks T Os) (hj : VL[j]? = some vs) : Mt_ l yX13_stale cX13_stale 2 (some .boolean) 1 0 0 [aR m, aI (j : Int)] u (qI fun r v => u = v ∧ qB r (¬ Cur vs ch)) := by
  have hm := h.1
  have h12 := h.2.2.2.2.1.2.1
  have hjl := (List.getElem?_eq_some_iff.mp hj).1
  have v3 := (h.2.2.2.2.1.2.2 j vs hj).1
  obtain ⟨⟨q1, q1'⟩, ⟨q2, q2'⟩, -⟩ := h.2.2.2.2.2.1.1 j vs hj
  have g2 := (h.2.2.2.1 vs.1 v3).2.1
  have rc := h.2.2.2.2.2.2.2.2 vs.1 v3
  refine Mt_of (by decide) (Nat.le_of_ble_eq_true rfl) (fun X ho hX hN hI => ?_)
  subst hX
  show Z X 0 [some (aR m), some (aI  (j : Int))] [] u 0 0
  have yes : ¬ Cur vs ch → Z X 28 [some (aR m), some (aI (j : Int))] [] u 0 0 := fun hn => by
    refine z_iconst ho dX13_stale_28 ?_
    refine z_goto (tgt := 33) ho dX13_stale_29 (by decide) ?_
    refine r_Z ho dX13_stale_33 (Nat.le_of_ble_eq_true rfl) (Nat.le_of_ble_eq_true rfl) ?_ ?_
    · exact Or.inr rfl
    · exact ⟨rfl, Or.inl ⟨rfl, hn⟩⟩
  refine z_aload_n ho dX13_stale_0 rfl ?_
  refine gX13_44 ho dX13_stale_1 hm.1 (mget hm.r13 ?_)
  refine z_iload_n ho dX13_stale_4 rfl ?_
  refine z_zald ho dX13_stale_5 hm.k11 (by omega) (hm.t11 (by omega)) ?_
  refine z_if_eq (tgt := 28) ho dX13_stale_6 (by decide) (by rw [q1]; unfold rng; omega) (fun c6 => ?_) (fun c6 => ?_)
  · rw [q1] at c6
    exact yes (fun z => by have := z.1; omega)
  · rw [q1] at c6
    refine z_aload_n ho dX13_stale_9 rfl ?_
    refine gX13_54 ho dX13_stale_10 hm.1 (mget hm.r16 ?_)
    refine z_iload_n ho dX13_stale_13 rfl ?_
    refine z_iald ho dX13_stale_14 hm.k14 (by omega) (hm.t14 (by omega)) ?_
    refine z_aload_n ho dX13_stale_15 rfl ?_
    refine gX13_16 ho dX13_stale_16 hm.1 (mget hm.r4 ?_)
    refine z_aload_n ho dX13_stale_19 rfl ?_
    refine z_iload_n ho dX13_stale_20 rfl ?_
    refine kX13_114 ho hN (c_mapOf _ _ hm h.2.2.2.2.1 hj) dX13_stale_21 hm.1 (Nat.le_of_ble_eq_true rfl) (Nat.le_of_ble_eq_true rfl) (Nat.le_of_ble_eq_true rfl) (Nat.le_of_ble_eq_true rfl) (fun x21 u21 h21 => ?_)
    obtain ⟨rfl, rfl⟩ := h21
    refine z_iald ho dX13_stale_24 hm.k3 (by omega) (hm.t3 (by omega)) ?_
    refine z_icmp_eq (tgt := 32) ho dX13_stale_25 (by decide) (by rw [q2]; exact q2') (by rw [g2]; exact rc) (fun c25 => ?_) (fun c25 => ?_)
    · rw [q2, g2] at c25
      refine z_iconst ho dX13_stale_32 ?_
      refine r_Z ho dX13_stale_33 (Nat.le_of_ble_eq_true rfl) (Nat.le_of_ble_eq_true rfl) ?_ ?_
      · exact Or.inl rfl
      · exact ⟨rfl, Or.inr ⟨rfl, fun z => z ⟨by omega, c25⟩⟩⟩
    · rw [q2, g2] at c25
      exact yes (fun z => c25 z.2)
