set_option maxRecDepth 100000
/-! ===== BitTree: nearest, above, below, depth ===== -/
theorem tx_inj {u : Mem} {es : List Nat} (hs : es.Pairwise (fun x y => tx u x < tx u y)) {x y : Nat} (hx : x ∈ es) (hy : y ∈ es) (h : tx u x = tx u y) : x = y := by
  induction es with
  | nil => simp at hx
  | cons z l ih =>
    obtain ⟨h1, h2⟩ := List.pairwise_cons.mp hs
    rcases List.mem_cons.mp hx with rfl | qx
    · rcases List.mem_cons.mp hy with rfl | qy
      · rfl
      · have := h1 y qy; rw [h] at this; exact absurd this (li_irr _)
    · rcases List.mem_cons.mp hy with rfl | qy
      · have := h1 x qx; rw [h] at this; exact absurd this (li_irr _)
      · exact ih h2 qx qy
theorem qAb_of {u : Mem} {S es A B : List Nat} {k : Nat} {st : Int} (hS : ∀ e, e ∈ S ↔ e ∈ es) (hs : es.Pairwise (fun x y => tx u x < tx u y)) (he : es = A ++ B) (hA : ∀ x ∈ A, ¬ okA u k st x) (hB : ∀ x ∈ B, okA u k st x) : qAb u S k st (B.head?.getD 0) := by
  subst he
  cases B with
  | nil => exact Or.inl ⟨rfl, fun e h => hA e (by have := (hS e).mp h; simpa using this)⟩
  | cons b B =>
    refine Or.inr ⟨(hS _).mpr (by simp), hB _ (by simp), fun e h ho => ?_⟩
    have hm := (hS e).mp h
    rcases List.mem_append.mp hm with q | q
    · exact absurd ho (hA e q)
    · rcases List.mem_cons.mp q with q | q
      · exact Or.inl q
      · exact Or.inr ((List.pairwise_cons.mp (List.pairwise_append.mp hs).2.1).1 e q)
theorem qBe_of {u : Mem} {S es A B : List Nat} {k : Nat} {st : Int} (hS : ∀ e, e ∈ S ↔ e ∈ es) (hs : es.Pairwise (fun x y => tx u x < tx u y)) (he : es = A ++ B) (hA : ∀ x ∈ A, okB u k st x) (hB : ∀ x ∈ B, ¬ okB u k st x) : qBe u S k st (A.getLast?.getD 0) := by
  subst he
  rcases List.eq_nil_or_concat A with rfl | ⟨A, a, rfl⟩
  · exact Or.inl ⟨rfl, fun e h => hB e (by have := (hS e).mp h; simpa using this)⟩
  · rw [List.concat_eq_append] at *
    rw [List.getLast?_concat]
    refine Or.inr ⟨(hS _).mpr (by simp), hA _ (by simp), fun e h ho => ?_⟩
    have hm := (hS e).mp h
    rcases List.mem_append.mp hm with q | q
    · rcases List.mem_append.mp q with q | q
      · exact Or.inr ((List.pairwise_append.mp (List.pairwise_append.mp hs).1).2.2 e q a (by simp))
      · exact Or.inl (by simpa using q)
    · exact absurd ho (hB e q)
/-- at the stop all entries lie on one side -/
theorem stop_side {u : Mem} {n g k e0 : Nat} {eg fg : List Nat} {bit : Int} (hg : FT u n g eg fg) (he0 : e0 ∈ eg) (hs : Stp_ u g bit) (hb : ∀ e ∈ eg, ∀ i, agr (tx u e) (tx u k) i → agr (tx u e0) (tx u k) i) (hd : fdf (tx u e0) (tx u k) bit) (hw : Wf u) : ∀ x ∈ eg, fdf (tx u x) (tx u k) bit ∧ bitL (tx u x) bit = bitL (tx u e0) bit := by
  cases n with
  | zero => exact hg.elim
  | succ n =>
    obtain ⟨hk, h⟩ := hg
    rcases h with ⟨e, h1, h2, rfl, rfl⟩ | ⟨h1, h2, h3, es1, es2, fp1, fp2, f1, f2, rfl, rfl, g1, g2, g3, g4, g5, g6⟩
    · intro x hx
      rw [List.mem_singleton.mp hx, ← List.mem_singleton.mp he0]
      exact ⟨hd, rfl⟩
    · have hle : bit ≤ iv_ u g 0 := hs.resolve_left (fun q => q h1)
      have hlt : bit < iv_ u g 0 := by
        rcases Int.lt_or_eq_of_le hle with q | q
        · exact q
        · exfalso
          have n1 := (FT.mem u _ _ _ _ f1).1
          have n2 := (FT.mem u _ _ _ _ f2).1
          have fin : ∀ x ∈ es1 ++ es2, bitL (tx u x) bit = bitL (tx u k) bit → False := fun x hx hq => by
            have ag : agr (tx u x) (tx u k) (bit + 1) := fun j j0 j1 => by
              by_cases e : j = bit
              · rw [e]; exact hq
              · rw [g6 x hx e0 he0 j j0 (by omega)]
                exact hd.2.1 j j0 (by omega)
            exact hd.2.2 (hb x hx (bit + 1) ag bit hd.1 (by omega))
          rcases bitL_01 (tx u k) bit with q0 | q0
          · obtain ⟨x, hx⟩ := List.exists_mem_of_ne_nil _ n1
            exact fin x (by simp [hx]) (by rw [q0]; rw [q]; exact g4 x hx)
          · obtain ⟨x, hx⟩ := List.exists_mem_of_ne_nil _ n2
            exact fin x (by simp [hx]) (by rw [q0]; rw [q]; exact g5 x hx)
      intro x hx
      have e1 : ∀ j, 0 ≤ j → j ≤ bit → bitL (tx u x) j = bitL (tx u e0) j := fun j j0 j1 => g6 x hx e0 he0 j j0 (by omega)
      exact ⟨⟨hd.1, fun j j0 j1 => by rw [e1 j j0 (by omega)]; exact hd.2.1 j j0 j1, by rw [e1 bit hd.1 (by omega)]; exact hd.2.2⟩, e1 bit hd.1 (by omega)⟩
theorem stop_leaf {u : Mem} {n g e0 : Nat} {eg fg : List Nat} {bit : Int} (hg : FT u n g eg fg) (he0 : e0 ∈ eg) (hs : Stp_ u g bit) (hb : 136 ≤ bit) : eg = [e0] := by
  cases n with
  | zero => exact hg.elim
  | succ n =>
    obtain ⟨hk, h⟩ := hg
    rcases h with ⟨e, h1, h2, rfl, rfl⟩ | ⟨h1, h2, h3, h⟩
    · rw [List.mem_singleton.mp he0]
    · rcases hs with q | q
      · exact absurd h1 q
      · omega
theorem cmp0 {s t : List Int} : cmpT s t = 0 ↔ s = t := by
  unfold cmpT
  constructor
  · intro q
    split at q
    · assumption
    · split at q <;> omega
  · intro q; rw [if_pos q]
theorem cmp_rng (s t : List Int) : rng (cmpT s t) := by unfold cmpT rng; split <;> (try split) <;> omega
theorem okA_eq {u : Mem} {k e : Nat} {st : Int} (hk : k ≠ 0) : okA u k st e ↔ (tx u k < tx u e) ∨ (st = 0 ∧ tx u e = tx u k) := by
  unfold okA
  exact ⟨fun h => h.resolve_left hk, Or.inr⟩
theorem okB_eq {u : Mem} {k e : Nat} {st : Int} (hk : k ≠ 0) : okB u k st e ↔ (tx u e < tx u k) ∨ (st = 0 ∧ tx u e = tx u k) := by
  unfold okB
  exact ⟨fun h => h.resolve_left hk, Or.inr⟩
theorem okA_gt {u : Mem} {k e : Nat} {st : Int} (h : tx u k < tx u e) : okA u k st e := Or.inr (Or.inl h)
theorem okB_lt {u : Mem} {k e : Nat} {st : Int} (h : tx u e < tx u k) : okB u k st e := Or.inr (Or.inl h)
theorem okA_lt {u : Mem} {k e : Nat} {st : Int} (hk : k ≠ 0) (h : tx u e < tx u k) : ¬ okA u k st e := by
  rw [okA_eq hk]
  rintro (q | ⟨-, q⟩)
  · exact li_as h q
  · rw [q] at h; exact li_irr _ h
theorem okB_gt {u : Mem} {k e : Nat} {st : Int} (hk : k ≠ 0) (h : tx u k < tx u e) : ¬ okB u k st e := by
  rw [okB_eq hk]
  rintro (q | ⟨-, q⟩)
  · exact li_as h q
  · rw [q] at h; exact li_irr _ h
theorem okA_1 {u : Mem} {k e : Nat} (hk : k ≠ 0) (h : tx u e = tx u k) : ¬ okA u k 1 e := by
  rw [okA_eq hk]
  rintro (q | ⟨q, -⟩)
  · rw [h] at q; exact li_irr _ q
  · omega
theorem okB_1 {u : Mem} {k e : Nat} (hk : k ≠ 0) (h : tx u e = tx u k) : ¬ okB u k 1 e := by
  rw [okB_eq hk]
  rintro (q | ⟨q, -⟩)
  · rw [h] at q; exact li_irr _ q
  · omega
theorem qAb_eq {u : Mem} {S es : List Nat} {k e : Nat} (hS : ∀ e, e ∈ S ↔ e ∈ es) (hs : es.Pairwise (fun x y => tx u x < tx u y)) (hk : k ≠ 0) (he : e ∈ es) (h : tx u e = tx u k) : qAb u S k 0 e := by
  refine Or.inr ⟨(hS e).mpr he, Or.inr (Or.inr ⟨rfl, h⟩), fun x hx ho => ?_⟩
  rcases (okA_eq hk).mp ho with q | ⟨-, q⟩
  · exact Or.inr (by rw [h]; exact q)
  · exact Or.inl (tx_inj hs ((hS x).mp hx) he (by rw [q, h]))
theorem qBe_eq {u : Mem} {S es : List Nat} {k e : Nat} (hS : ∀ e, e ∈ S ↔ e ∈ es) (hs : es.Pairwise (fun x y => tx u x < tx u y)) (hk : k ≠ 0) (he : e ∈ es) (h : tx u e = tx u k) : qBe u S k 0 e := by
  refine Or.inr ⟨(hS e).mpr he, Or.inr (Or.inr ⟨rfl, h⟩), fun x hx ho => ?_⟩
  rcases (okB_eq hk).mp ho with q | ⟨-, q⟩
  · exact Or.inr (by rw [h]; exact q)
  · exact Or.inl (tx_inj hs ((hS x).mp hx) he (by rw [q, h]))
theorem c_nearest (l : Launch) (u : Mem) {t k : Nat} {S : List Nat} {st way : Int} (hT : BT u t S) (hk : k = 0 ∨ Ky u k) (hst : st = 0 ∨ st = 1) (hway : way = 0 ∨ way = 1) : Mt_ l yX4_nearest cX4_nearest 7 (some (.object "KeyHall$Entry")) 3 0 0 [aR t, aR k, aI st, aI way] u (qR fun r u' => u = u' ∧ (way = 0 → qAb u S k st r) ∧ (way = 1 → qBe u S k st r)) := by
  obtain ⟨ht, hT⟩ := hT
  refine Mt_of (by decide) (Nat.le_of_ble_eq_true rfl) (fun X ho hX hN hI => ?_)
  subst hX
  show Z X 0 [some (aR t), some (aR k), some (aI st), some (aI way), none, none, none] [] u 0 0
  refine z_wf (fun hw => ?_)
  refine z_aload_n ho dX4_nearest_0 rfl ?_
  refine gX4_7 ho dX4_nearest_1 ht ?_
  refine z_ifnonnull (tgt := 9) ho dX4_nearest_4 (by decide) (fun c4 => ?_) (fun c4 => ?_)
  · rcases hT with ⟨h0, -⟩ | ⟨n, es, fp, hf, hS⟩
    · exact absurd h0 c4
    have hs := FT.sorted _ _ _ _ hf
    have hm := FT.mem u _ _ _ _ hf
    refine z_aload_n ho dX4_nearest_9 rfl ?_
    refine z_ifnonnull (tgt := 22) ho dX4_nearest_10 (by decide) (fun c10 => ?_) (fun c10 => ?_)
    · have hk : Ky u k := hk.resolve_left c10
      refine z_aload_n ho dX4_nearest_22 rfl ?_
      refine z_aload_n ho dX4_nearest_23 rfl ?_
      refine kX4_32 ho hN (c_near _ _ ht hf hk) dX4_nearest_24 (by assumption) (Nat.le_of_ble_eq_true rfl) (Nat.le_of_ble_eq_true rfl) (Nat.le_of_ble_eq_true rfl) (Nat.le_of_ble_eq_true rfl) (fun x24 u24 h24 => ?_)
      obtain ⟨rfl, h1, h2⟩ := h24
      have e1 := hm.2.1 x24 h1
      refine z_astore ho dX4_nearest_27 (Nat.le_of_ble_eq_true rfl) rfl ?_
      refine z_aload ho dX4_nearest_29 rfl ?_
      refine z_aload_n ho dX4_nearest_31 rfl ?_
      refine kX4_36 ho hN (c_compareTo _ _ e1.1 hk) dX4_nearest_32 e1.2 (Nat.le_of_ble_eq_true rfl) (Nat.le_of_ble_eq_true rfl) (Nat.le_of_ble_eq_true rfl) (Nat.le_of_ble_eq_true rfl) (fun x32 u32 h32 => ?_)
      obtain ⟨rfl, rfl⟩ := h32
      refine z_if_ne (tgt := 56) ho dX4_nearest_35 (by decide) (cmp_rng _ _) (fun c35 => ?_) (fun c35 => ?_)
      · have hne : tx u x24 ≠ tx u k := fun q => c35 (cmp0.mpr q)
        refine z_aload ho dX4_nearest_56 rfl ?_
        refine z_aload_n ho dX4_nearest_58 rfl ?_
        refine kX4_45 ho hN (c_difference _ _ e1.1 hk hne) dX4_nearest_59 e1.2 (Nat.le_of_ble_eq_true rfl) (Nat.le_of_ble_eq_true rfl) (Nat.le_of_ble_eq_true rfl) (Nat.le_of_ble_eq_true rfl) (fun x59 u59 h59 => ?_)
        obtain ⟨rfl, hd⟩ := h59
        have hd2 := fdf_hi e1.1.Tx hk.Tx hd
        have h01 := bitL_01 (tx u k) x59
        have h02 := bitL_01 (tx u x24) x59
        have hdn := hd.2.2
        have hd0 := hd.1
        have side : ∀ (n' g : Nat) (Ls eg Rs fg : List Nat), FT u n' g eg fg → Cut u es k x24 Ls eg Rs → Stp_ u g x59 → ∀ x ∈ eg, (tx u x < tx u k ↔ bitL (tx u k) x59 = 1) ∧ (tx u k < tx u x ↔ bitL (tx u k) x59 = 0) := by
          intro n' g Ls eg Rs fg hg hc hstp x hx
          have := stop_side hg hc.2.1 hstp (fun e he i hi => h2 e (by rw [hc.1]; simp [he]) i hi) hd hw x hx
          have en := (FT.mem u _ _ _ _ hg).2.1 x hx
          have ff := fdf_iff en.1.Tx hk.Tx this.1
          rw [this.2] at ff
          constructor
          · rw [ff.1]; constructor <;> intro q <;> omega
          · rw [ff.2]; constructor <;> intro q <;> omega
        refine z_istore ho dX4_nearest_62 (Nat.le_of_ble_eq_true rfl) rfl ?_
        refine z_aload_n ho dX4_nearest_64 rfl ?_
        refine z_iload ho dX4_nearest_65 rfl ?_
        refine kX4_23 ho hN (c_bit _ _ hk hd.1 (by omega)) dX4_nearest_67 hk.1 (Nat.le_of_ble_eq_true rfl) (Nat.le_of_ble_eq_true rfl) (Nat.le_of_ble_eq_true rfl) (Nat.le_of_ble_eq_true rfl) (fun x67 u67 h67 => ?_)
        obtain ⟨rfl, rfl⟩ := h67
        refine z_iload_n ho dX4_nearest_70 rfl ?_
        refine z_icmp_eq (tgt := 83) ho dX4_nearest_71 (by decide) (by unfold rng; omega) (by unfold rng; omega) (fun c71 => ?_) (fun c71 => ?_)
        · 
          refine z_aload_n ho dX4_nearest_83 rfl ?_
          refine gX4_7 ho dX4_nearest_84 ht ?_
          refine z_astore ho dX4_nearest_87 (Nat.le_of_ble_eq_true rfl) rfl ?_
          have key : ∀ (n f : Nat) (Ls ef Rs fp' : List Nat), FT u n f ef fp' → Cut u es k x24 Ls ef Rs → Z X 89 [some (aR t), some (aR k), some (aI st), some (aI way), some (aR x24), some (aI x59), some (aR f)] [] u 0 0 := by
            intro n
            induction n with
            | zero => intro f Ls ef Rs fp' h; exact h.elim
            | succ n ih =>
              intro f Ls ef Rs fp' h hc
              have hm' := FT.mem u _ _ _ _ h
              have fin : Stp_ u f x59 → Z X 126 [some (aR t), some (aR k), some (aI st), some (aI way), some (aR x24), some (aI x59), some (aR f)] [] u 0 0 := by
                intro hstp
                have sd := side _ _ _ _ _ _ h hc hstp
                refine z_aload ho dX4_nearest_126 rfl ?_
                refine z_iload_n ho dX4_nearest_128 rfl ?_
                refine kX4_62 ho hN (c_Fork_end _ _ h hway) dX4_nearest_129 h.kd (Nat.le_of_ble_eq_true rfl) (Nat.le_of_ble_eq_true rfl) (Nat.le_of_ble_eq_true rfl) (Nat.le_of_ble_eq_true rfl) (fun x129 u129 h129 => ?_)
                obtain ⟨rfl, r0, r1⟩ := h129
                refine r_R ho dX4_nearest_132 (Nat.le_of_ble_eq_true rfl) (Nat.le_of_ble_eq_true rfl) ?_
                refine ⟨rfl, fun q => ?_, fun q => ?_⟩
                · have := qAb_of (A := Ls) (B := ef ++ Rs) (st := st) hS hs (by rw [hc.1]) (fun x hx => okA_lt c10 (hc.2.2.1 x hx)) (fun x hx => by
                    rcases List.mem_append.mp hx with q2 | q2
                    · exact okA_gt ((sd x q2).2.mpr (by omega))
                    · exact okA_gt (hc.2.2.2 x q2))
                  rw [List.head?_append, r0 q] at this
                  exact this
                · have := qBe_of (A := Ls ++ ef) (B := Rs) (st := st) hS hs (by rw [hc.1, List.append_assoc]) (fun x hx => by
                    rcases List.mem_append.mp hx with q2 | q2
                    · exact okB_lt (hc.2.2.1 x q2)
                    · exact okB_lt ((sd x q2).1.mpr (by omega))) (fun x hx => okB_gt c10 (hc.2.2.2 x hx))
                  rw [List.getLast?_append, r1 q] at this
                  exact this
              have h' := h
              obtain ⟨hkf, h⟩ := h
              refine z_aload ho dX4_nearest_89 rfl ?_
              refine gX4_13 ho dX4_nearest_91 hkf ?_
              refine z_ifnonnull (tgt := 126) ho dX4_nearest_94 (by decide) (fun c94 => ?_) (fun c94 => ?_)
              · exact fin (Or.inl c94)
              · rcases h with ⟨e, g1, g2, rfl, rfl⟩ | ⟨g1, g2, g3, es1, es2, fp1, fp2, f1, f2, rfl, rfl, -, -, -, b1, b2, b3⟩
                · rw [g1] at c94
                  exact absurd c94 (g2.ne0 hw)
                · 
                  refine z_aload ho dX4_nearest_97 rfl ?_
                  refine gX4_19 ho dX4_nearest_99 hkf ?_
                  refine z_iload ho dX4_nearest_102 rfl ?_
                  refine z_icmp_ge (tgt := 126) ho dX4_nearest_104 (by decide) (by unfold rng; omega) (by unfold rng; omega) (fun c104 => ?_) (fun c104 => ?_)
                  · exact fin (Or.inr c104)
                  · have h01 := bitL_01 (tx u k) (iv_ u f 0)
                    obtain ⟨s0, s1⟩ := Cut.step (n := n) (fp1 := fp1) (fp2 := fp2) hk hc hd.2.1 c104 g2 hm'.2.1 b1 b2 b3
                    refine z_aload ho dX4_nearest_107 rfl ?_
                    refine z_aload_n ho dX4_nearest_109 rfl ?_
                    refine z_aload ho dX4_nearest_110 rfl ?_
                    refine gX4_19 ho dX4_nearest_112 hkf ?_
                    refine kX4_23 ho hN (c_bit _ _ hk g2 (by omega)) dX4_nearest_115 hk.1 (Nat.le_of_ble_eq_true rfl) (Nat.le_of_ble_eq_true rfl) (Nat.le_of_ble_eq_true rfl) (Nat.le_of_ble_eq_true rfl) (fun x115 u115 h115 => ?_)
                    obtain ⟨rfl, rfl⟩ := h115
                    refine kX4_28 ho hN (c_Fork_to _ _ hkf (by unfold rng; omega)) dX4_nearest_118 (by assumption) (Nat.le_of_ble_eq_true rfl) (Nat.le_of_ble_eq_true rfl) (Nat.le_of_ble_eq_true rfl) (Nat.le_of_ble_eq_true rfl) (fun x118 u118 h118 => ?_)
                    obtain ⟨rfl, rfl⟩ := h118
                    refine z_astore ho dX4_nearest_121 (Nat.le_of_ble_eq_true rfl) rfl ?_
                    refine z_goto (tgt := 89) ho dX4_nearest_123 (by decide) ?_
                    by_cases hz : bitL (tx u k) (iv_ u f 0) = 0
                    · rw [if_pos hz]
                      exact ih _ _ _ _ _ f1 (s0 hz)
                    · rw [if_neg hz]
                      exact ih _ _ _ _ _ f2 (s1 (by omega))
          exact key n _ [] es [] fp hf ⟨by simp, h1, fun x hx => by simp at hx, fun x hx => by simp at hx⟩
        · 
          refine z_aload_n ho dX4_nearest_74 rfl ?_
          refine z_aload_n ho dX4_nearest_75 rfl ?_
          refine z_iload ho dX4_nearest_76 rfl ?_
          refine z_iload_n ho dX4_nearest_78 rfl ?_
          refine kX4_69 ho hN (c_aside _ _ ht hf hk h1 hd.2.1 (by unfold rng; omega) hway) dX4_nearest_79 (by assumption) (Nat.le_of_ble_eq_true rfl) (Nat.le_of_ble_eq_true rfl) (Nat.le_of_ble_eq_true rfl) (Nat.le_of_ble_eq_true rfl) (fun x79 u79 h79 => ?_)
          obtain ⟨rfl, n', g, Ls, eg, Rs, fg, hg, hc, hstp, r0, r1⟩ := h79
          refine r_R ho dX4_nearest_82 (Nat.le_of_ble_eq_true rfl) (Nat.le_of_ble_eq_true rfl) ?_
          have sd := side _ _ _ _ _ _ hg hc hstp
          refine ⟨rfl, fun q => ?_, fun q => ?_⟩
          · rw [r0 q]
            refine qAb_of (A := Ls ++ eg) (B := Rs) hS hs (by rw [hc.1, List.append_assoc]) (fun x hx => ?_) (fun x hx => okA_gt (hc.2.2.2 x hx))
            rcases List.mem_append.mp hx with q2 | q2
            · exact okA_lt c10 (hc.2.2.1 x q2)
            · exact okA_lt c10 ((sd x q2).1.mpr (by omega))
          · rw [r1 q]
            refine qBe_of (A := Ls) (B := eg ++ Rs) hS hs hc.1 (fun x hx => okB_lt (hc.2.2.1 x hx)) (fun x hx => ?_)
            rcases List.mem_append.mp hx with q2 | q2
            · exact okB_gt c10 ((sd x q2).2.mpr (by omega))
            · exact okB_gt c10 (hc.2.2.2 x q2)
      · have heq := cmp0.mp c35
        refine z_iload_n ho dX4_nearest_38 rfl ?_
        refine z_if_eq (tgt := 53) ho dX4_nearest_39 (by decide) (by unfold rng; omega) (fun c39 => ?_) (fun c39 => ?_)
        · 
          refine z_aload ho dX4_nearest_53 rfl ?_
          refine r_R ho dX4_nearest_55 (Nat.le_of_ble_eq_true rfl) (Nat.le_of_ble_eq_true rfl) ?_
          have : st = 0 := by omega
          subst this
          exact ⟨rfl, fun _ => qAb_eq hS hs c10 h1 heq, fun _ => qBe_eq hS hs c10 h1 heq⟩
        · have : st = 1 := by omega
          subst this
          refine z_aload_n ho dX4_nearest_42 rfl ?_
          refine z_aload_n ho dX4_nearest_43 rfl ?_
          refine z_ldc ho q439 dX4_nearest_44 (x := 2147483647) rfl ?_
          refine z_iload_n ho dX4_nearest_46 rfl ?_
          refine kX4_69 ho hN (c_aside _ _ ht hf hk h1 (agr.all heq _) (by unfold rng; omega) hway) dX4_nearest_47 (by assumption) (Nat.le_of_ble_eq_true rfl) (Nat.le_of_ble_eq_true rfl) (Nat.le_of_ble_eq_true rfl) (Nat.le_of_ble_eq_true rfl) (fun x47 u47 h47 => ?_)
          obtain ⟨rfl, n', g, Ls, eg, Rs, fg, hg, hc, hstp, r0, r1⟩ := h47
          refine z_goto (tgt := 55) ho dX4_nearest_50 (by decide) ?_
          refine r_R ho dX4_nearest_55 (Nat.le_of_ble_eq_true rfl) (Nat.le_of_ble_eq_true rfl) ?_
          have hl := stop_leaf hg hc.2.1 hstp (by decide)
          subst hl
          refine ⟨rfl, fun q => ?_, fun q => ?_⟩
          · rw [r0 q]
            refine qAb_of (A := Ls ++ [x24]) (B := Rs) hS hs (by rw [hc.1, List.append_assoc]) (fun x hx => ?_) (fun x hx => okA_gt (hc.2.2.2 x hx))
            rcases List.mem_append.mp hx with q2 | q2
            · exact okA_lt c10 (hc.2.2.1 x q2)
            · rw [List.mem_singleton.mp q2]
              exact okA_1 c10 heq
          · rw [r1 q]
            refine qBe_of (A := Ls) (B := [x24] ++ Rs) hS hs hc.1 (fun x hx => okB_lt (hc.2.2.1 x hx)) (fun x hx => ?_)
            rcases List.mem_append.mp hx with q2 | q2
            · rw [List.mem_singleton.mp q2]
              exact okB_1 c10 heq
            · exact okB_gt c10 (hc.2.2.2 x q2)
    · 
      refine z_aload_n ho dX4_nearest_13 rfl ?_
      refine gX4_7 ho dX4_nearest_14 ht ?_
      refine z_iload_n ho dX4_nearest_17 rfl ?_
      refine kX4_62 ho hN (c_Fork_end _ _ hf hway) dX4_nearest_18 hf.kd (Nat.le_of_ble_eq_true rfl) (Nat.le_of_ble_eq_true rfl) (Nat.le_of_ble_eq_true rfl) (Nat.le_of_ble_eq_true rfl) (fun x18 u18 h18 => ?_)
      obtain ⟨rfl, r0, r1⟩ := h18
      refine r_R ho dX4_nearest_21 (Nat.le_of_ble_eq_true rfl) (Nat.le_of_ble_eq_true rfl) ?_
      refine ⟨rfl, fun q => ?_, fun q => ?_⟩
      · have := qAb_of (A := []) (B := es) (k := k) (st := st) hS hs (by simp) (fun x hx => by simp at hx) (fun x hx => Or.inl c10)
        rw [r0 q] at this
        exact this
      · have := qBe_of (A := es) (B := []) (k := k) (st := st) hS hs (by simp) (fun x hx => Or.inl c10) (fun x hx => by simp at hx)
        rw [r1 q] at this
        exact this
  · 
    refine z_null ho dX4_nearest_7 ?_
    refine r_R ho dX4_nearest_8 (Nat.le_of_ble_eq_true rfl) (Nat.le_of_ble_eq_true rfl) ?_
    rcases hT with ⟨h0, rfl⟩ | ⟨n, es, fp, hf, hS⟩
    · exact ⟨rfl, fun _ => Or.inl ⟨rfl, fun e he => by simp at he⟩, fun _ => Or.inl ⟨rfl, fun e he => by simp at he⟩⟩
    · have := hf.kd
      rw [c4] at this
      have := hw.1 0 (by omega)
      omega
theorem c_BT_above (l : Launch) (u : Mem) {t k : Nat} {S : List Nat} {st : Int} (hT : BT u t S) (hk : k = 0 ∨ Ky u k) (hst : st = 0 ∨ st = 1) : Mt_ l yX4_above cX4_above 3 (some (.object "KeyHall$Entry")) 4 0 0 [aR t, aR k, aI st] u (qR fun r u' => u = u' ∧ qAb u S k st r) := by
  refine Mt_of (by decide) (Nat.le_of_ble_eq_true rfl) (fun X ho hX hN hI => ?_)
  subst hX
  show Z X 0 [some (aR t), some (aR k), some (aI st)] [] u 0 0
  refine z_aload_n ho dX4_above_0 rfl ?_
  refine z_aload_n ho dX4_above_1 rfl ?_
  refine z_iload_n ho dX4_above_2 rfl ?_
  refine z_iconst ho dX4_above_3 ?_
  refine kX4_73 ho hN (c_nearest _ _ hT hk hst (Or.inl rfl)) dX4_above_4 hT.1 (Nat.le_of_ble_eq_true rfl) (Nat.le_of_ble_eq_true rfl) (Nat.le_of_ble_eq_true rfl) (Nat.le_of_ble_eq_true rfl) (fun x4 u4 h4 => ?_)
  obtain ⟨rfl, h1, -⟩ := h4
  refine r_R ho dX4_above_7 (Nat.le_of_ble_eq_true rfl) (Nat.le_of_ble_eq_true rfl) ?_
  exact ⟨rfl, h1 rfl⟩
theorem c_BT_below (l : Launch) (u : Mem) {t k : Nat} {S : List Nat} {st : Int} (hT : BT u t S) (hk : k = 0 ∨ Ky u k) (hst : st = 0 ∨ st = 1) : Mt_ l yX4_below cX4_below 3 (some (.object "KeyHall$Entry")) 4 0 0 [aR t, aR k, aI st] u (qR fun r u' => u = u' ∧ qBe u S k st r) := by
  refine Mt_of (by decide) (Nat.le_of_ble_eq_true rfl) (fun X ho hX hN hI => ?_)
  subst hX
  show Z X 0 [some (aR t), some (aR k), some (aI st)] [] u 0 0
  refine z_aload_n ho dX4_below_0 rfl ?_
  refine z_aload_n ho dX4_below_1 rfl ?_
  refine z_iload_n ho dX4_below_2 rfl ?_
  refine z_iconst ho dX4_below_3 ?_
  refine kX4_73 ho hN (c_nearest _ _ hT hk hst (Or.inr rfl)) dX4_below_4 hT.1 (Nat.le_of_ble_eq_true rfl) (Nat.le_of_ble_eq_true rfl) (Nat.le_of_ble_eq_true rfl) (Nat.le_of_ble_eq_true rfl) (fun x4 u4 h4 => ?_)
  obtain ⟨rfl, -, h1⟩ := h4
  refine r_R ho dX4_below_7 (Nat.le_of_ble_eq_true rfl) (Nat.le_of_ble_eq_true rfl) ?_
  exact ⟨rfl, h1 rfl⟩
theorem c_depth (l : Launch) (u : Mem) {t k : Nat} {S : List Nat} (hT : BT u t S) (hk : Ky u k) (hin : ∃ e ∈ S, tx u e = tx u k) : Mt_ l yX4_depth cX4_depth 4 (some .int) 1 0 0 [aR t, aR k] u (qI fun r u' => u = u' ∧ ∃ L : List Int, L.Nodup ∧ (∀ i, i ∈ L ↔ ∃ x ∈ S, fdf (tx u x) (tx u k) i) ∧ r = L.length) := by
  obtain ⟨ht, hT⟩ := hT
  obtain ⟨e0, he0, heq⟩ := hin
  refine Mt_of (by decide) (Nat.le_of_ble_eq_true rfl) (fun X ho hX hN hI => ?_)
  subst hX
  show Z X 0 [some (aR t), some (aR k), none, none] [] u 0 0
  refine z_wf (fun hw => ?_)
  rcases hT with ⟨-, rfl⟩ | ⟨n, es, fp, hf, hS⟩
  · simp at he0
  refine z_iconst ho dX4_depth_0 ?_
  refine z_istore_n ho dX4_depth_1 (Nat.le_of_ble_eq_true rfl) rfl ?_
  refine z_aload_n ho dX4_depth_2 rfl ?_
  refine gX4_7 ho dX4_depth_3 ht ?_
  refine z_astore_n ho dX4_depth_6 (Nat.le_of_ble_eq_true rfl) rfl ?_
  have key : ∀ (n f : Nat) (L : List Int) (ef fp' : List Nat), FT u n f ef fp' → e0 ∈ ef → L.Nodup → (∀ i ∈ L, ∀ x ∈ ef, agr (tx u x) (tx u k) (i + 1)) → (∀ i, (∃ x ∈ S, fdf (tx u x) (tx u k) i) ↔ (i ∈ L ∨ ∃ x ∈ ef, fdf (tx u x) (tx u k) i)) → (∀ i ∈ L, 0 ≤ i) → Z X 7 [some (aR t), some (aR k), some (aI (L.length : Int)), some (aR f)] [] u 0 0 := by
    intro n
    induction n with
    | zero => intro f L ef fp' h; exact h.elim
    | succ n ih =>
      intro f L ef fp' h hin hnd hag hiff hpos
      obtain ⟨hkf, h⟩ := h
      refine z_aload_n ho dX4_depth_7 rfl ?_
      refine gX4_13 ho dX4_depth_8 hkf ?_
      refine z_ifnonnull (tgt := 33) ho dX4_depth_11 (by decide) (fun c11 => ?_) (fun c11 => ?_)
      · 
        refine z_iload_n ho dX4_depth_33 rfl ?_
        refine r_I ho dX4_depth_34 (Nat.le_of_ble_eq_true rfl) (Nat.le_of_ble_eq_true rfl) ?_
        rcases h with ⟨e, g1, g2, rfl, rfl⟩ | ⟨g1, -⟩
        · refine ⟨rfl, L, hnd, fun i => ?_, rfl⟩
          rw [hiff i]
          refine ⟨Or.inl, fun q => q.resolve_right (fun ⟨x, hx, hfd⟩ => ?_)⟩
          rw [List.mem_singleton.mp hx, ← List.mem_singleton.mp hin] at hfd
          exact fdf_ne hfd heq
        · exact absurd g1 c11
      · rcases h with ⟨e, g1, g2, rfl, rfl⟩ | ⟨g1, g2, g3, es1, es2, fp1, fp2, f1, f2, rfl, rfl, -, -, -, b1, b2, b3⟩
        · rw [g1] at c11
          exact absurd c11 (g2.ne0 hw)
        · have h01 := bitL_01 (tx u k) (iv_ u f 0)
          refine z_iinc ho dX4_depth_14 rfl rfl ?_
          refine z_aload_n ho dX4_depth_17 rfl ?_
          refine z_aload_n ho dX4_depth_18 rfl ?_
          refine z_aload_n ho dX4_depth_19 rfl ?_
          refine gX4_19 ho dX4_depth_20 hkf ?_
          refine kX4_23 ho hN (c_bit _ _ hk g2 (by omega)) dX4_depth_23 hk.1 (Nat.le_of_ble_eq_true rfl) (Nat.le_of_ble_eq_true rfl) (Nat.le_of_ble_eq_true rfl) (Nat.le_of_ble_eq_true rfl) (fun x23 u23 h23 => ?_)
          obtain ⟨rfl, rfl⟩ := h23
          refine kX4_28 ho hN (c_Fork_to _ _ hkf (by unfold rng; omega)) dX4_depth_26 (by assumption) (Nat.le_of_ble_eq_true rfl) (Nat.le_of_ble_eq_true rfl) (Nat.le_of_ble_eq_true rfl) (Nat.le_of_ble_eq_true rfl) (fun x26 u26 h26 => ?_)
          obtain ⟨rfl, rfl⟩ := h26
          refine z_astore_n ho dX4_depth_29 (Nat.le_of_ble_eq_true rfl) rfl ?_
          refine z_goto (tgt := 7) ho dX4_depth_30 (by decide) ?_
          have hlen : ((L.length : Int) + 1) = (((iv_ u f 0) :: L).length : Int) := by simp
          rw [hlen]
          have n1 := (FT.mem u _ _ _ _ f1).1
          have n2 := (FT.mem u _ _ _ _ f2).1
          have agb : ∀ x ∈ es1 ++ es2, agr (tx u x) (tx u k) (iv_ u f 0) := fun x hx j j0 j1 => by rw [b3 x hx e0 hin j j0 j1, heq]
          have hnl : iv_ u f 0 ∉ L := fun q => by
            obtain ⟨x1, hx1⟩ := List.exists_mem_of_ne_nil _ n1
            obtain ⟨x2, hx2⟩ := List.exists_mem_of_ne_nil _ n2
            have q1 := hag _ q x1 (by simp [hx1]) (iv_ u f 0) g2 (by omega)
            have q2 := hag _ q x2 (by simp [hx2]) (iv_ u f 0) g2 (by omega)
            rw [b1 x1 hx1] at q1
            rw [b2 x2 hx2] at q2
            omega
          have stp : ∀ ea eb : List Nat, (∀ x, x ∈ es1 ++ es2 ↔ x ∈ ea ∨ x ∈ eb) → eb ≠ [] → (∀ x ∈ ea, bitL (tx u x) (iv_ u f 0) = bitL (tx u k) (iv_ u f 0)) → (∀ x ∈ eb, bitL (tx u x) (iv_ u f 0) ≠ bitL (tx u k) (iv_ u f 0)) → e0 ∈ ea ∧ ((iv_ u f 0) :: L).Nodup ∧ (∀ i ∈ (iv_ u f 0) :: L, ∀ x ∈ ea, agr (tx u x) (tx u k) (i + 1)) ∧ (∀ i, (∃ x ∈ S, fdf (tx u x) (tx u k) i) ↔ (i ∈ (iv_ u f 0) :: L ∨ ∃ x ∈ ea, fdf (tx u x) (tx u k) i)) ∧ (∀ i ∈ (iv_ u f 0) :: L, 0 ≤ i) := by
            intro ea eb hsp hbn ha hb
            refine ⟨?_, List.nodup_cons.mpr ⟨hnl, hnd⟩, fun i hi x hx => ?_, fun i => ?_, fun i hi => ?_⟩
            · rcases (hsp e0).mp hin with q | q
              · exact q
              · exact absurd (by rw [heq]) (hb e0 q)
            · rcases List.mem_cons.mp hi with rfl | q
              · intro j j0 j1
                by_cases e : j = iv_ u f 0
                · rw [e]; exact ha x hx
                · exact agb x ((hsp x).mpr (Or.inl hx)) j j0 (by omega)
              · exact hag i q x ((hsp x).mpr (Or.inl hx))
            · rw [hiff i]
              constructor
              · rintro (q | ⟨x, hx, q⟩)
                · exact Or.inl (List.mem_cons_of_mem _ q)
                · rcases (hsp x).mp hx with q2 | q2
                  · exact Or.inr ⟨x, q2, q⟩
                  · have : fdf (tx u x) (tx u k) (iv_ u f 0) := ⟨g2, agb x hx, hb x q2⟩
                    rw [q.uniq this]
                    exact Or.inl List.mem_cons_self
              · rintro (q | ⟨x, hx, q⟩)
                · rcases List.mem_cons.mp q with rfl | q
                  · obtain ⟨x, hx⟩ := List.exists_mem_of_ne_nil _ hbn
                    exact Or.inr ⟨x, (hsp x).mpr (Or.inr hx), g2, agb x ((hsp x).mpr (Or.inr hx)), hb x hx⟩
                  · exact Or.inl q
                · exact Or.inr ⟨x, (hsp x).mpr (Or.inl hx), q⟩
            · rcases List.mem_cons.mp hi with rfl | q
              · exact g2
              · exact hpos i q
          by_cases hz : bitL (tx u k) (iv_ u f 0) = 0
          · rw [if_pos hz]
            obtain ⟨s1, s2, s3, s4, s5⟩ := stp es1 es2 (fun x => List.mem_append) n2 (fun x hx => by rw [b1 x hx, hz]) (fun x hx => by rw [b2 x hx, hz]; decide)
            exact ih _ _ _ _ f1 s1 s2 s3 s4 s5
          · rw [if_neg hz]
            have hz1 : bitL (tx u k) (iv_ u f 0) = 1 := by omega
            obtain ⟨s1, s2, s3, s4, s5⟩ := stp es2 es1 (fun x => by rw [List.mem_append]; exact or_comm) n1 (fun x hx => by rw [b2 x hx, hz1]) (fun x hx => by rw [b1 x hx, hz1]; decide)
            exact ih _ _ _ _ f2 s1 s2 s3 s4 s5
  exact key n _ [] es fp hf ((hS e0).mp he0) List.nodup_nil (fun i hi => by simp at hi) (fun i => by
    constructor
    · rintro ⟨x, hx, q⟩; exact Or.inr ⟨x, (hS x).mp hx, q⟩
    · rintro (q | ⟨x, hx, q⟩)
      · simp at q
      · exact ⟨x, (hS x).mpr hx, q⟩) (fun i hi => by simp at hi)
