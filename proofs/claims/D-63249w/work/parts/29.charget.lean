set_option maxRecDepth 100000
/-! ===== CharTree: above, below, get ===== -/
def Abv (u : Mem) (es : List Nat) (k : Nat) (st : Int) (r : Nat) : Prop := ∃ A B, es = A ++ B ∧ (∀ x ∈ A, ¬ okA u k st x) ∧ (∀ x ∈ B, okA u k st x) ∧ r = B.head?.getD 0
def Blw (u : Mem) (es : List Nat) (k : Nat) (st : Int) (r : Nat) : Prop := ∃ A B, es = A ++ B ∧ (∀ x ∈ A, okB u k st x) ∧ (∀ x ∈ B, ¬ okB u k st x) ∧ r = A.getLast?.getD 0
theorem Abv.skip {u : Mem} {es C : List Nat} {k : Nat} {st : Int} {r : Nat} (h : Abv u es k st r) (hc : ∀ x ∈ C, ¬ okA u k st x) : Abv u (C ++ es) k st r := by
  obtain ⟨A, B, rfl, h1, h2, rfl⟩ := h
  refine ⟨C ++ A, B, by simp, fun x hx => ?_, h2, rfl⟩
  rcases List.mem_append.mp hx with q | q
  · exact hc x q
  · exact h1 x q
theorem Abv.all {u : Mem} {es : List Nat} {k : Nat} {st : Int} (hc : ∀ x ∈ es, okA u k st x) : Abv u es k st (es.head?.getD 0) := ⟨[], es, rfl, fun x hx => by simp at hx, hc, rfl⟩
theorem Abv.no {u : Mem} {es : List Nat} {k : Nat} {st : Int} (hc : ∀ x ∈ es, ¬ okA u k st x) : Abv u es k st 0 := ⟨es, [], by simp, hc, fun x hx => by simp at hx, rfl⟩
theorem Abv.thn {u : Mem} {es C : List Nat} {k : Nat} {st : Int} {r : Nat} (h : Abv u es k st r) (hc : ∀ x ∈ C, okA u k st x) (hz : ∀ x ∈ es, x ≠ 0) : (r ≠ 0 → Abv u (es ++ C) k st r) ∧ (r = 0 → Abv u (es ++ C) k st (C.head?.getD 0)) := by
  obtain ⟨A, B, rfl, h1, h2, rfl⟩ := h
  cases B with
  | nil => exact ⟨fun q => absurd rfl q, fun _ => ⟨A, C, by simp, h1, hc, rfl⟩⟩
  | cons b B =>
    refine ⟨fun _ => ⟨A, (b :: B) ++ C, by simp, h1, fun x hx => ?_, rfl⟩, fun q => absurd q (hz b (by simp))⟩
    rcases List.mem_append.mp hx with q | q
    · exact h2 x q
    · exact hc x q
theorem Blw.skip {u : Mem} {es C : List Nat} {k : Nat} {st : Int} {r : Nat} (h : Blw u es k st r) (hc : ∀ x ∈ C, ¬ okB u k st x) : Blw u (es ++ C) k st r := by
  obtain ⟨A, B, rfl, h1, h2, rfl⟩ := h
  refine ⟨A, B ++ C, by simp, h1, fun x hx => ?_, rfl⟩
  rcases List.mem_append.mp hx with q | q
  · exact h2 x q
  · exact hc x q
theorem Blw.all {u : Mem} {es : List Nat} {k : Nat} {st : Int} (hc : ∀ x ∈ es, okB u k st x) : Blw u es k st (es.getLast?.getD 0) := ⟨es, [], by simp, hc, fun x hx => by simp at hx, rfl⟩
theorem Blw.no {u : Mem} {es : List Nat} {k : Nat} {st : Int} (hc : ∀ x ∈ es, ¬ okB u k st x) : Blw u es k st 0 := ⟨[], es, rfl, fun x hx => by simp at hx, hc, rfl⟩
theorem Blw.thn {u : Mem} {es C : List Nat} {k : Nat} {st : Int} {r : Nat} (h : Blw u es k st r) (hc : ∀ x ∈ C, okB u k st x) (hz : ∀ x ∈ es, x ≠ 0) : (r ≠ 0 → Blw u (C ++ es) k st r) ∧ (r = 0 → Blw u (C ++ es) k st (C.getLast?.getD 0)) := by
  obtain ⟨A, B, rfl, h1, h2, rfl⟩ := h
  rcases List.eq_nil_or_concat A with rfl | ⟨A, a, rfl⟩
  · exact ⟨fun q => absurd rfl q, fun _ => ⟨C, B, by simp, hc, h2, rfl⟩⟩
  · rw [List.concat_eq_append] at *
    rw [List.getLast?_concat]
    refine ⟨fun _ => ⟨C ++ (A ++ [a]), B, by simp, fun x hx => ?_, h2, by rw [← List.append_assoc, List.getLast?_concat]⟩, fun q => absurd q (hz a (by simp))⟩
    rcases List.mem_append.mp hx with q | q
    · exact hc x q
    · exact h1 x q
theorem Blw.none {u : Mem} {es : List Nat} {k : Nat} {st : Int} {r : Nat} (h : Blw u es k st r) (hc : ∀ x ∈ es, ¬ okB u k st x) : r = 0 := by
  obtain ⟨A, B, rfl, h1, h2, rfl⟩ := h
  cases A with
  | nil => rfl
  | cons a A => exact absurd (h1 a (by simp)) (hc a (by simp))
theorem WT.ne0 {u : Mem} {n w : Nat} {p : List Int} {es fp : List Nat} (hw : Wf u) (h : WT u n p w es fp) : ∀ x ∈ es, x ≠ 0 := fun x hx => ((WT.mem _ _ _ _ _ h).1 x hx).1.ne0 hw
/-- how the parts of a node lie to a text that goes on with x -/
theorem WN.cmp {u : Mem} {n w k : Nat} {p q' : List Int} {x : Int} {es1 es2 es3 es4 fp3 : List Nat} (hs : tx u k = p ++ x :: q') (w3 : WT u n (p ++ [iv_ u w 0]) (rv_ u w 2) es3 fp3) (hent : Ent u (rv_ u w 4) (p ++ [iv_ u w 0]) es2) (lo : ∀ e ∈ es1, ∃ d s, tx u e = p ++ d :: s ∧ d < iv_ u w 0) (hi : ∀ e ∈ es4, ∃ d s, tx u e = p ++ d :: s ∧ iv_ u w 0 < d) :
    (iv_ u w 0 ≤ x → ∀ e ∈ es1, tx u e < tx u k) ∧ (iv_ u w 0 < x → ∀ e ∈ es2 ++ es3, tx u e < tx u k) ∧ (x ≤ iv_ u w 0 → ∀ e ∈ es4, tx u k < tx u e) ∧ (x < iv_ u w 0 → ∀ e ∈ es2 ++ es3, tx u k < tx u e) ∧
    (x = iv_ u w 0 → q' ≠ [] → ∀ e ∈ es2, tx u e < tx u k) ∧ (x = iv_ u w 0 → q' = [] → (∀ e ∈ es2, tx u e = tx u k) ∧ ∀ e ∈ es3, tx u k < tx u e) := by
  have m3 := (WT.mem _ _ _ _ _ w3).1
  have t2 : ∀ e ∈ es2, tx u e = p ++ [iv_ u w 0] := fun e he => by
    rcases hent with ⟨-, rfl⟩ | ⟨h1, h2, rfl⟩
    · simp at he
    · rw [List.mem_singleton.mp he]; exact h2
  have t23 : ∀ e ∈ es2 ++ es3, ∃ s, tx u e = p ++ iv_ u w 0 :: s := fun e he => by
    rcases List.mem_append.mp he with q | q
    · exact ⟨[], t2 e q⟩
    · obtain ⟨-, d, s, hh⟩ := m3 e q
      exact ⟨d :: s, by rw [hh]; simp⟩
  refine ⟨fun hx e he => ?_, fun hx e he => ?_, fun hx e he => ?_, fun hx e he => ?_, fun hx hq e he => ?_, fun hx hq => ⟨fun e he => ?_, fun e he => ?_⟩⟩
  · obtain ⟨d, s, h1, h2⟩ := lo e he
    rw [h1, hs]; exact lt_app p (lt_hd (by omega) _ _)
  · obtain ⟨s, h1⟩ := t23 e he
    rw [h1, hs]; exact lt_app p (lt_hd (by omega) _ _)
  · obtain ⟨d, s, h1, h2⟩ := hi e he
    rw [h1, hs]; exact lt_app p (lt_hd (by omega) _ _)
  · obtain ⟨s, h1⟩ := t23 e he
    rw [h1, hs]; exact lt_app p (lt_hd (by omega) _ _)
  · rw [t2 e he, hs, ← hx]
    cases q' with
    | nil => exact absurd rfl hq
    | cons y q' =>
      have := lt_app (p ++ [x]) (lt_nil y q')
      simpa using this
  · rw [t2 e he, hs, hq, hx]
  · obtain ⟨-, d, s, hh⟩ := m3 e he
    rw [hh, hs, hq, ← hx]
    have := lt_app (p ++ [x]) (lt_nil d s)
    simpa using this
theorem c_above_2 (l : Launch) (u : Mem) {k : Nat} {st : Int} (hk : Ky u k) (hst : st = 0 ∨ st = 1) : ∀ (n w : Nat) (p q : List Int) (es fp : List Nat) (i : Int), WT u n p w es fp → tx u k = p ++ q → i = p.length →
    Mt_ l yX12_above_2 cX12_above_2 5 (some (.object "KeyHall$Entry")) (2 * n + 1) 0 0 [aR w, aR k, aI i, aI st] u (qR fun r u' => u = u' ∧ Abv u es k st r) := by
  have hlen := hk.tx_len
  intro n
  induction n with
  | zero =>
    rintro w p q es fp i ⟨rfl, rfl, rfl⟩ hs hi
    refine Mt_of (by decide) (Nat.le_of_ble_eq_true rfl) (fun X ho hX hN hI => ?_)
    subst hX
    show Z X 0 [some (aR 0), some (aR k), some (aI i), some (aI st), none] [] u 0 0
    refine z_aload_n ho dX12_above_2_0 rfl ?_
    refine z_ifnonnull (tgt := 6) ho dX12_above_2_1 (by decide) (fun c1 => ?_) (fun c1 => ?_)
    · exact absurd rfl c1
    · 
      refine z_null ho dX12_above_2_4 ?_
      refine r_R ho dX12_above_2_5 (Nat.le_of_ble_eq_true rfl) (Nat.le_of_ble_eq_true rfl) ?_
      exact ⟨rfl, Abv.no (fun x hx => by simp at hx)⟩
  | succ n ih =>
    intro w p q es fp i h hs hi
    have hk' := hk
    obtain ⟨kk, rk, ck, lk, nk, nk8, vk⟩ := hk'
    have hpl : (p.length : Int) + q.length = iv_ u k 1 := by rw [← hlen, hs]; simp
    refine Mt_of (by decide) (Nat.le_of_ble_eq_true rfl) (fun X ho hX hN hI => ?_)
    subst hX
    show Z X 0 [some (aR w), some (aR k), some (aI i), some (aI st), none] [] u 0 0
    refine z_wf (fun hw => ?_)
    have hk0 := (hk.lt hw).2.2
    refine z_aload_n ho dX12_above_2_0 rfl ?_
    refine z_ifnonnull (tgt := 6) ho dX12_above_2_1 (by decide) (fun c1 => ?_) (fun c1 => ?_)
    · have hN0 := WT.node h c1
      obtain ⟨m', hm', hkw, v0, v1, es1, es2, es3, es4, fp1, fp3, fp4, w1, w3, w4, hent, rfl, rfl, hne, -, lo, hi4⟩ := hN0
      obtain rfl : n = m' := by omega
      refine z_iload_n ho dX12_above_2_6 rfl ?_
      refine z_aload_n ho dX12_above_2_7 rfl ?_
      refine gX12_7 ho dX12_above_2_8 kk ?_
      refine z_icmp_ne (tgt := 19) ho dX12_above_2_11 (by decide) (by unfold rng; omega) (by unfold rng; omega) (fun c11 => ?_) (fun c11 => ?_)
      · obtain ⟨q', hq⟩ := hk.split hs hi (by omega)
        subst hq
        have hvx := vk i (by omega) (by omega)
        obtain ⟨a1, a2, a3, a4, a5, a6⟩ := WN.cmp hs w3 hent lo hi4
        have hne4 : (es2 ++ (es3 ++ es4)).head?.getD 0 = (es2 ++ es3).head?.getD 0 := by
          rw [← List.append_assoc]
          cases hq : es2 ++ es3 with
          | nil => exact absurd hq hne
          | cons x l => rfl
        refine z_aload_n ho dX12_above_2_19 rfl ?_
        refine gX12_23 ho dX12_above_2_20 kk ?_
        refine z_iload_n ho dX12_above_2_23 rfl ?_
        refine z_cald ho dX12_above_2_24 (by rw [rk]; exact ck) (by omega) (by rw [rk, lk]; omega) ?_
        refine z_aload_n ho dX12_above_2_25 rfl ?_
        refine gX12_27 ho dX12_above_2_26 hkw ?_
        refine z_icmp_le (tgt := 43) ho dX12_above_2_29 (by decide) (by rw [rk]; unfold rng; omega) (by unfold rng; omega) (fun c29 => ?_) (fun c29 => ?_)
        · 
          refine z_null ho dX12_above_2_43 ?_
          refine z_astore ho dX12_above_2_44 (Nat.le_of_ble_eq_true rfl) rfl ?_
          refine z_aload_n ho dX12_above_2_46 rfl ?_
          refine gX12_23 ho dX12_above_2_47 kk ?_
          refine z_iload_n ho dX12_above_2_50 rfl ?_
          refine z_cald ho dX12_above_2_51 (by rw [rk]; exact ck) (by omega) (by rw [rk, lk]; omega) ?_
          refine z_aload_n ho dX12_above_2_52 rfl ?_
          refine gX12_27 ho dX12_above_2_53 hkw ?_
          refine z_icmp_ge (tgt := 86) ho dX12_above_2_56 (by decide) (by rw [rk]; unfold rng; omega) (by unfold rng; omega) (fun c56 => ?_) (fun c56 => ?_)
          · rw [rk] at c29 c56
            have hx : iv_ u (k + 1) i = iv_ u w 0 := by omega
            have hs' : tx u k = (p ++ [iv_ u w 0]) ++ q' := by rw [hs, hx]; simp
            simp only [List.length_cons] at hpl
            have fin : (es2 = [] ∨ i + 1 ≠ iv_ u k 1 ∨ st = 1) → Z X 112 [some (aR w), some (aR k), some (aI i), some (aI st), some (aR 0)] [] u 0 0 := by
              intro hc
              refine z_aload_n ho dX12_above_2_112 rfl ?_
              refine gX12_41 ho dX12_above_2_113 hkw ?_
              refine z_aload_n ho dX12_above_2_116 rfl ?_
              refine z_iload_n ho dX12_above_2_117 rfl ?_
              refine z_iconst ho dX12_above_2_118 ?_
              refine z_iadd ho dX12_above_2_119 ?_
              refine z_iload_n ho dX12_above_2_120 rfl ?_
              refine kX12_72 ho hN (ih _ _ _ _ _ _ w3 hs' (by simp [hi])) dX12_above_2_121 (by omega) (Nat.le_of_ble_eq_true rfl) (Nat.le_of_ble_eq_true rfl) (Nat.le_of_ble_eq_true rfl) (fun x121 u121 h121 => ?_)
              obtain ⟨rfl, h1⟩ := h121
              have hskip : ∀ x ∈ es1 ++ es2, ¬ okA u k st x := fun x hx' => by
                rcases List.mem_append.mp hx' with qq | qq
                · exact okA_lt hk0 (a1 (by omega) x qq)
                · rcases hc with rfl | hc | hc
                  · simp at qq
                  · exact okA_lt hk0 (a5 hx (fun e => by rw [e] at hpl; simp at hpl; omega) x qq)
                  · by_cases hq' : q' = []
                    · subst hc; exact okA_1 hk0 ((a6 hx hq').1 x qq)
                    · exact okA_lt hk0 (a5 hx hq' x qq)
              obtain ⟨t1, t2⟩ := h1.thn (C := es4) (fun x hx' => okA_gt (a3 (by omega) x hx')) (w3.ne0 hw)
              refine z_astore ho dX12_above_2_124 (Nat.le_of_ble_eq_true rfl) rfl ?_
              refine z_aload ho dX12_above_2_126 rfl ?_
              refine z_ifnull (tgt := 136) ho dX12_above_2_128 (by decide) (fun c128 => ?_) (fun c128 => ?_)
              · 
                refine z_aload_n ho dX12_above_2_136 rfl ?_
                refine gX12_35 ho dX12_above_2_137 hkw ?_
                refine kX12_66 ho hN (c_first_here _ _ _ _ _ _ _ w4) dX12_above_2_140 (by omega) (Nat.le_of_ble_eq_true rfl) (Nat.le_of_ble_eq_true rfl) (Nat.le_of_ble_eq_true rfl) (fun x140 u140 h140 => ?_)
                obtain ⟨rfl, rfl⟩ := h140
                refine r_R ho dX12_above_2_143 (Nat.le_of_ble_eq_true rfl) (Nat.le_of_ble_eq_true rfl) ?_
                refine ⟨rfl, ?_⟩
                have := (t2 c128).skip hskip
                rw [List.append_assoc] at this
                exact this
              · 
                refine z_aload ho dX12_above_2_131 rfl ?_
                refine z_goto (tgt := 143) ho dX12_above_2_133 (by decide) ?_
                refine r_R ho dX12_above_2_143 (Nat.le_of_ble_eq_true rfl) (Nat.le_of_ble_eq_true rfl) ?_
                refine ⟨rfl, ?_⟩
                have := (t1 c128).skip hskip
                rw [List.append_assoc] at this
                exact this
            refine z_iload_n ho dX12_above_2_86 rfl ?_
            refine z_iconst ho dX12_above_2_87 ?_
            refine z_iadd ho dX12_above_2_88 ?_
            refine z_aload_n ho dX12_above_2_89 rfl ?_
            refine gX12_7 ho dX12_above_2_90 kk ?_
            refine z_icmp_ne (tgt := 112) ho dX12_above_2_93 (by decide) (by unfold rng; omega) (by unfold rng; omega) (fun c93 => ?_) (fun c93 => ?_)
            · exact fin (Or.inr (Or.inl (by omega)))
            · 
              refine z_iload_n ho dX12_above_2_96 rfl ?_
              refine z_if_ne (tgt := 112) ho dX12_above_2_97 (by decide) (by unfold rng; omega) (fun c97 => ?_) (fun c97 => ?_)
              · exact fin (Or.inr (Or.inr (by omega)))
              · 
                refine z_aload_n ho dX12_above_2_100 rfl ?_
                refine gX12_38 ho dX12_above_2_101 hkw ?_
                refine z_ifnull (tgt := 112) ho dX12_above_2_104 (by decide) (fun c104 => ?_) (fun c104 => ?_)
                · rcases hent with ⟨-, rfl⟩ | ⟨h1, -, -⟩
                  · exact fin (Or.inl rfl)
                  · exact absurd c104 (h1.ne0 hw)
                · 
                  refine z_aload_n ho dX12_above_2_107 rfl ?_
                  refine gX12_38 ho dX12_above_2_108 hkw ?_
                  refine r_R ho dX12_above_2_111 (Nat.le_of_ble_eq_true rfl) (Nat.le_of_ble_eq_true rfl) ?_
                  refine ⟨rfl, ?_⟩
                  have hq' : q' = [] := List.eq_nil_of_length_eq_zero (by omega)
                  rcases hent with ⟨h0, -⟩ | ⟨-, -, rfl⟩
                  · exact absurd h0 c104
                  · refine Abv.skip (Abv.all (fun x hx' => ?_)) (fun x hx' => okA_lt hk0 (a1 (by omega) x hx'))
                    have b6 := a6 hx hq'
                    simp only [List.mem_append] at hx'
                    rcases hx' with qq | qq | qq
                    · exact Or.inr (Or.inr ⟨by omega, b6.1 x qq⟩)
                    · exact okA_gt (b6.2 x qq)
                    · exact okA_gt (a3 (by omega) x qq)
          · rw [rk] at c29 c56
            refine z_aload_n ho dX12_above_2_59 rfl ?_
            refine gX12_32 ho dX12_above_2_60 hkw ?_
            refine z_aload_n ho dX12_above_2_63 rfl ?_
            refine z_iload_n ho dX12_above_2_64 rfl ?_
            refine z_iload_n ho dX12_above_2_65 rfl ?_
            refine kX12_72 ho hN (ih _ _ _ _ _ _ w1 hs hi) dX12_above_2_66 (by omega) (Nat.le_of_ble_eq_true rfl) (Nat.le_of_ble_eq_true rfl) (Nat.le_of_ble_eq_true rfl) (fun x66 u66 h66 => ?_)
            obtain ⟨rfl, h1⟩ := h66
            obtain ⟨t1, t2⟩ := h1.thn (C := es2 ++ (es3 ++ es4)) (fun x hx' => by
              simp only [List.mem_append] at hx'
              rcases hx' with qq | qq | qq
              · exact okA_gt (a4 (by omega) x (by simp [qq]))
              · exact okA_gt (a4 (by omega) x (by simp [qq]))
              · exact okA_gt (a3 (by omega) x qq)) (w1.ne0 hw)
            refine z_astore ho dX12_above_2_69 (Nat.le_of_ble_eq_true rfl) rfl ?_
            refine z_aload ho dX12_above_2_71 rfl ?_
            refine z_ifnull (tgt := 81) ho dX12_above_2_73 (by decide) (fun c73 => ?_) (fun c73 => ?_)
            · 
              refine z_aload_n ho dX12_above_2_81 rfl ?_
              refine kX12_62 ho hN (c_here _ _ hkw hent w3) dX12_above_2_82 (by omega) (Nat.le_of_ble_eq_true rfl) (Nat.le_of_ble_eq_true rfl) (Nat.le_of_ble_eq_true rfl) (fun x82 u82 h82 => ?_)
              obtain ⟨rfl, rfl⟩ := h82
              refine r_R ho dX12_above_2_85 (Nat.le_of_ble_eq_true rfl) (Nat.le_of_ble_eq_true rfl) ?_
              exact ⟨rfl, by rw [← hne4]; exact t2 c73⟩
            · 
              refine z_aload ho dX12_above_2_76 rfl ?_
              refine z_goto (tgt := 85) ho dX12_above_2_78 (by decide) ?_
              refine r_R ho dX12_above_2_85 (Nat.le_of_ble_eq_true rfl) (Nat.le_of_ble_eq_true rfl) ?_
              exact ⟨rfl, t1 c73⟩
        · rw [rk] at c29
          refine z_aload_n ho dX12_above_2_32 rfl ?_
          refine gX12_35 ho dX12_above_2_33 hkw ?_
          refine z_aload_n ho dX12_above_2_36 rfl ?_
          refine z_iload_n ho dX12_above_2_37 rfl ?_
          refine z_iload_n ho dX12_above_2_38 rfl ?_
          refine kX12_72 ho hN (ih _ _ _ _ _ _ w4 hs hi) dX12_above_2_39 (by omega) (Nat.le_of_ble_eq_true rfl) (Nat.le_of_ble_eq_true rfl) (Nat.le_of_ble_eq_true rfl) (fun x39 u39 h39 => ?_)
          obtain ⟨rfl, h1⟩ := h39
          refine r_R ho dX12_above_2_42 (Nat.le_of_ble_eq_true rfl) (Nat.le_of_ble_eq_true rfl) ?_
          refine ⟨rfl, ?_⟩
          have := h1.skip (C := es1 ++ (es2 ++ es3)) (fun x hx' => by
            rcases List.mem_append.mp hx' with qq | qq
            · exact okA_lt hk0 (a1 (by omega) x qq)
            · exact okA_lt hk0 (a2 (by omega) x qq))
          simp only [List.append_assoc] at this
          exact this
      · 
        refine z_aload_n ho dX12_above_2_14 rfl ?_
        refine kX12_66 ho hN (c_first_here _ _ _ _ _ _ _ h) dX12_above_2_15 (by omega) (Nat.le_of_ble_eq_true rfl) (Nat.le_of_ble_eq_true rfl) (Nat.le_of_ble_eq_true rfl) (fun x15 u15 h15 => ?_)
        obtain ⟨rfl, rfl⟩ := h15
        refine r_R ho dX12_above_2_18 (Nat.le_of_ble_eq_true rfl) (Nat.le_of_ble_eq_true rfl) ?_
        refine ⟨rfl, Abv.all (fun x hx => ?_)⟩
        obtain ⟨-, d, s, hh⟩ := (WT.mem _ _ _ _ _ h).1 x hx
        have hq : q = [] := List.eq_nil_of_length_eq_zero (by omega)
        refine okA_gt ?_
        rw [hs, hh, hq]
        exact lt_app p (lt_nil d s)
    · 
      refine z_null ho dX12_above_2_4 ?_
      refine r_R ho dX12_above_2_5 (Nat.le_of_ble_eq_true rfl) (Nat.le_of_ble_eq_true rfl) ?_
      subst c1
      exact ⟨rfl, by rw [(h.of0 hw).1]; exact Abv.no (fun x hx => by simp at hx)⟩
theorem c_below_2 (l : Launch) (u : Mem) {k : Nat} {st : Int} (hk : Ky u k) (hst : st = 0 ∨ st = 1) : ∀ (n w : Nat) (p q : List Int) (es fp : List Nat) (i : Int), WT u n p w es fp → tx u k = p ++ q → i = p.length →
    Mt_ l yX12_below_2 cX12_below_2 5 (some (.object "KeyHall$Entry")) (2 * n + 1) 0 0 [aR w, aR k, aI i, aI st] u (qR fun r u' => u = u' ∧ Blw u es k st r) := by
  have hlen := hk.tx_len
  intro n
  induction n with
  | zero =>
    rintro w p q es fp i ⟨rfl, rfl, rfl⟩ hs hi
    refine Mt_of (by decide) (Nat.le_of_ble_eq_true rfl) (fun X ho hX hN hI => ?_)
    subst hX
    show Z X 0 [some (aR 0), some (aR k), some (aI i), some (aI st), none] [] u 0 0
    refine z_aload_n ho dX12_below_2_0 rfl ?_
    refine z_ifnull (tgt := 12) ho dX12_below_2_1 (by decide) (fun c1 => ?_) (fun c1 => ?_)
    · 
      refine z_null ho dX12_below_2_12 ?_
      refine r_R ho dX12_below_2_13 (Nat.le_of_ble_eq_true rfl) (Nat.le_of_ble_eq_true rfl) ?_
      exact ⟨rfl, Blw.no (fun x hx => by simp at hx)⟩
    · exact absurd rfl c1
  | succ n ih =>
    intro w p q es fp i h hs hi
    have hk' := hk
    obtain ⟨kk, rk, ck, lk, nk, nk8, vk⟩ := hk'
    have hpl : (p.length : Int) + q.length = iv_ u k 1 := by rw [← hlen, hs]; simp
    refine Mt_of (by decide) (Nat.le_of_ble_eq_true rfl) (fun X ho hX hN hI => ?_)
    subst hX
    show Z X 0 [some (aR w), some (aR k), some (aI i), some (aI st), none] [] u 0 0
    refine z_wf (fun hw => ?_)
    have hk0 := (hk.lt hw).2.2
    refine z_aload_n ho dX12_below_2_0 rfl ?_
    refine z_ifnull (tgt := 12) ho dX12_below_2_1 (by decide) (fun c1 => ?_) (fun c1 => ?_)
    · 
      refine z_null ho dX12_below_2_12 ?_
      refine r_R ho dX12_below_2_13 (Nat.le_of_ble_eq_true rfl) (Nat.le_of_ble_eq_true rfl) ?_
      subst c1
      exact ⟨rfl, by rw [(h.of0 hw).1]; exact Blw.no (fun x hx => by simp at hx)⟩
    · have hN0 := WT.node h c1
      obtain ⟨m', hm', hkw, v0, v1, es1, es2, es3, es4, fp1, fp3, fp4, w1, w3, w4, hent, rfl, rfl, hne, -, lo, hi4⟩ := hN0
      obtain rfl : n = m' := by omega
      refine z_iload_n ho dX12_below_2_4 rfl ?_
      refine z_aload_n ho dX12_below_2_5 rfl ?_
      refine gX12_7 ho dX12_below_2_6 kk ?_
      refine z_icmp_ne (tgt := 14) ho dX12_below_2_9 (by decide) (by unfold rng; omega) (by unfold rng; omega) (fun c9 => ?_) (fun c9 => ?_)
      · obtain ⟨q', hq⟩ := hk.split hs hi (by omega)
        subst hq
        have hvx := vk i (by omega) (by omega)
        obtain ⟨a1, a2, a3, a4, a5, a6⟩ := WN.cmp hs w3 hent lo hi4
        refine z_aload_n ho dX12_below_2_14 rfl ?_
        refine gX12_23 ho dX12_below_2_15 kk ?_
        refine z_iload_n ho dX12_below_2_18 rfl ?_
        refine z_cald ho dX12_below_2_19 (by rw [rk]; exact ck) (by omega) (by rw [rk, lk]; omega) ?_
        refine z_aload_n ho dX12_below_2_20 rfl ?_
        refine gX12_27 ho dX12_below_2_21 hkw ?_
        refine z_icmp_ge (tgt := 38) ho dX12_below_2_24 (by decide) (by rw [rk]; unfold rng; omega) (by unfold rng; omega) (fun c24 => ?_) (fun c24 => ?_)
        · 
          refine z_null ho dX12_below_2_38 ?_
          refine z_astore ho dX12_below_2_39 (Nat.le_of_ble_eq_true rfl) rfl ?_
          refine z_aload_n ho dX12_below_2_41 rfl ?_
          refine gX12_23 ho dX12_below_2_42 kk ?_
          refine z_iload_n ho dX12_below_2_45 rfl ?_
          refine z_cald ho dX12_below_2_46 (by rw [rk]; exact ck) (by omega) (by rw [rk, lk]; omega) ?_
          refine z_aload_n ho dX12_below_2_47 rfl ?_
          refine gX12_27 ho dX12_below_2_48 hkw ?_
          refine z_icmp_le (tgt := 96) ho dX12_below_2_51 (by decide) (by rw [rk]; unfold rng; omega) (by unfold rng; omega) (fun c51 => ?_) (fun c51 => ?_)
          · rw [rk] at c24 c51
            have hx : iv_ u (k + 1) i = iv_ u w 0 := by omega
            have hs' : tx u k = (p ++ [iv_ u w 0]) ++ q' := by rw [hs, hx]; simp
            simp only [List.length_cons] at hpl
            have n4 : ∀ x ∈ es4, ¬ okB u k st x := fun x hx' => okB_gt hk0 (a3 (by omega) x hx')
            have y1 : ∀ x ∈ es1, okB u k st x := fun x hx' => okB_lt (a1 (by omega) x hx')
            refine z_aload_n ho dX12_below_2_96 rfl ?_
            refine gX12_41 ho dX12_below_2_97 hkw ?_
            refine z_aload_n ho dX12_below_2_100 rfl ?_
            refine z_iload_n ho dX12_below_2_101 rfl ?_
            refine z_iconst ho dX12_below_2_102 ?_
            refine z_iadd ho dX12_below_2_103 ?_
            refine z_iload_n ho dX12_below_2_104 rfl ?_
            refine kX12_76 ho hN (ih _ _ _ _ _ _ w3 hs' (by simp [hi])) dX12_below_2_105 (by omega) (Nat.le_of_ble_eq_true rfl) (Nat.le_of_ble_eq_true rfl) (Nat.le_of_ble_eq_true rfl) (fun x105 u105 h105 => ?_)
            obtain ⟨rfl, h1⟩ := h105
            refine z_astore ho dX12_below_2_108 (Nat.le_of_ble_eq_true rfl) rfl ?_
            refine z_aload ho dX12_below_2_110 rfl ?_
            refine z_ifnonnull (tgt := 135) ho dX12_below_2_112 (by decide) (fun c112 => ?_) (fun c112 => ?_)
            · have hq' : q' ≠ [] := fun e => by
                have b6 := a6 hx e
                exact c112 (h1.none (fun x hx' => okB_gt hk0 (b6.2 x hx')))
              refine z_aload ho dX12_below_2_135 rfl ?_
              refine z_ifnull (tgt := 145) ho dX12_below_2_137 (by decide) (fun c137 => ?_) (fun c137 => ?_)
              · exact absurd (by assumption) c112
              · 
                refine z_aload ho dX12_below_2_140 rfl ?_
                refine z_goto (tgt := 152) ho dX12_below_2_142 (by decide) ?_
                refine r_R ho dX12_below_2_152 (Nat.le_of_ble_eq_true rfl) (Nat.le_of_ble_eq_true rfl) ?_
                refine ⟨rfl, ?_⟩
                have := ((h1.thn (C := es1 ++ es2) (fun x hx' => by
                  rcases List.mem_append.mp hx' with qq | qq
                  · exact y1 x qq
                  · exact okB_lt (a5 hx hq' x qq)) (w3.ne0 hw)).1 c112).skip n4
                simp only [List.append_assoc] at this
                exact this
            · have fin : ∀ e : Nat, ((e = rv_ u w 4 ∧ (∀ x ∈ es2, okB u k st x)) ∨ (e = 0 ∧ ∀ x ∈ es2 ++ es3, ¬ okB u k st x)) → Z X 135 [some (aR w), some (aR k), some (aI i), some (aI st), some (aR e)] [] u 0 0 := by
                intro e he
                refine z_aload ho dX12_below_2_135 rfl ?_
                refine z_ifnull (tgt := 145) ho dX12_below_2_137 (by decide) (fun c137 => ?_) (fun c137 => ?_)
                · 
                  refine z_aload_n ho dX12_below_2_145 rfl ?_
                  refine gX12_32 ho dX12_below_2_146 hkw ?_
                  refine kX12_69 ho hN (c_last _ _ _ _ _ _ _ w1) dX12_below_2_149 (by omega) (Nat.le_of_ble_eq_true rfl) (Nat.le_of_ble_eq_true rfl) (Nat.le_of_ble_eq_true rfl) (fun x149 u149 h149 => ?_)
                  obtain ⟨rfl, rfl⟩ := h149
                  refine r_R ho dX12_below_2_152 (Nat.le_of_ble_eq_true rfl) (Nat.le_of_ble_eq_true rfl) ?_
                  refine ⟨rfl, ?_⟩
                  rcases he with ⟨he, h2⟩ | ⟨he, h2⟩
                  · have e2 : es2 = [] := by
                      rcases hent with ⟨-, q⟩ | ⟨q, -⟩
                      · exact q
                      · exact absurd (he.symm.trans c137) (q.ne0 hw)
                    subst e2
                    have := ((h1.thn (C := es1) y1 (w3.ne0 hw)).2 c112).skip n4
                    simp only [List.append_assoc] at this
                    exact this
                  · have := ((Blw.all y1).skip h2).skip n4
                    simp only [List.append_assoc] at this
                    exact this
                · 
                  refine z_aload ho dX12_below_2_140 rfl ?_
                  refine z_goto (tgt := 152) ho dX12_below_2_142 (by decide) ?_
                  refine r_R ho dX12_below_2_152 (Nat.le_of_ble_eq_true rfl) (Nat.le_of_ble_eq_true rfl) ?_
                  refine ⟨rfl, ?_⟩
                  rcases he with ⟨rfl, h2⟩ | ⟨he, -⟩
                  · have e2 : es2 = [rv_ u w 4] := by
                      rcases hent with ⟨q, -⟩ | ⟨-, -, q⟩
                      · exact absurd q c137
                      · exact q
                    have := ((h1.thn (C := es1 ++ es2) (fun x hx' => by
                      rcases List.mem_append.mp hx' with qq | qq
                      · exact y1 x qq
                      · exact h2 x qq) (w3.ne0 hw)).2 c112).skip n4
                    rw [List.getLast?_append, e2] at this
                    simp only [List.append_assoc] at this
                    rw [e2]
                    exact this
                  · exact absurd he c137
              refine z_iload_n ho dX12_below_2_115 rfl ?_
              refine z_iconst ho dX12_below_2_116 ?_
              refine z_iadd ho dX12_below_2_117 ?_
              refine z_aload_n ho dX12_below_2_118 rfl ?_
              refine gX12_7 ho dX12_below_2_119 kk ?_
              refine z_icmp_lt (tgt := 129) ho dX12_below_2_122 (by decide) (by unfold rng; omega) (by unfold rng; omega) (fun c122 => ?_) (fun c122 => ?_)
              · 
                refine z_aload_n ho dX12_below_2_129 rfl ?_
                refine gX12_38 ho dX12_below_2_130 hkw ?_
                refine z_astore ho dX12_below_2_133 (Nat.le_of_ble_eq_true rfl) rfl ?_
                exact fin _ (Or.inl ⟨rfl, fun x hx' => okB_lt (a5 hx (fun e => by rw [e] at hpl; simp at hpl; omega) x hx')⟩)
              · have hq' : q' = [] := List.eq_nil_of_length_eq_zero (by omega)
                have b6 := a6 hx hq'
                refine z_iload_n ho dX12_below_2_125 rfl ?_
                refine z_if_ne (tgt := 135) ho dX12_below_2_126 (by decide) (by unfold rng; omega) (fun c126 => ?_) (fun c126 => ?_)
                · subst c112
                  exact fin _ (Or.inr ⟨rfl, fun x hx' => by
                    rcases List.mem_append.mp hx' with qq | qq
                    · obtain rfl : st = 1 := by omega
                      exact okB_1 hk0 (b6.1 x qq)
                    · exact okB_gt hk0 (b6.2 x qq)⟩)
                · 
                  refine z_aload_n ho dX12_below_2_129 rfl ?_
                  refine gX12_38 ho dX12_below_2_130 hkw ?_
                  refine z_astore ho dX12_below_2_133 (Nat.le_of_ble_eq_true rfl) rfl ?_
                  exact fin _ (Or.inl ⟨rfl, fun x hx' => Or.inr (Or.inr ⟨by omega, b6.1 x hx'⟩)⟩)
          · rw [rk] at c24 c51
            refine z_aload_n ho dX12_below_2_54 rfl ?_
            refine gX12_35 ho dX12_below_2_55 hkw ?_
            refine z_aload_n ho dX12_below_2_58 rfl ?_
            refine z_iload_n ho dX12_below_2_59 rfl ?_
            refine z_iload_n ho dX12_below_2_60 rfl ?_
            refine kX12_76 ho hN (ih _ _ _ _ _ _ w4 hs hi) dX12_below_2_61 (by omega) (Nat.le_of_ble_eq_true rfl) (Nat.le_of_ble_eq_true rfl) (Nat.le_of_ble_eq_true rfl) (fun x61 u61 h61 => ?_)
            obtain ⟨rfl, h1⟩ := h61
            obtain ⟨t1, t2⟩ := h1.thn (C := es1 ++ (es2 ++ es3)) (fun x hx' => by
              rcases List.mem_append.mp hx' with qq | qq
              · exact okB_lt (a1 (by omega) x qq)
              · exact okB_lt (a2 (by omega) x qq)) (w4.ne0 hw)
            simp only [List.append_assoc] at t1 t2
            refine z_astore ho dX12_below_2_64 (Nat.le_of_ble_eq_true rfl) rfl ?_
            refine z_aload ho dX12_below_2_66 rfl ?_
            refine z_ifnull (tgt := 74) ho dX12_below_2_68 (by decide) (fun c68 => ?_) (fun c68 => ?_)
            · 
              refine z_aload_n ho dX12_below_2_74 rfl ?_
              refine gX12_41 ho dX12_below_2_75 hkw ?_
              refine z_ifnull (tgt := 91) ho dX12_below_2_78 (by decide) (fun c78 => ?_) (fun c78 => ?_)
              · 
                refine z_aload_n ho dX12_below_2_91 rfl ?_
                refine gX12_38 ho dX12_below_2_92 hkw ?_
                refine r_R ho dX12_below_2_95 (Nat.le_of_ble_eq_true rfl) (Nat.le_of_ble_eq_true rfl) ?_
                refine ⟨rfl, ?_⟩
                have := t2 c68
                have e3 : es3 = [] := by rw [c78] at w3; exact (w3.of0 hw).1
                subst e3
                rcases hent with ⟨q, rfl⟩ | ⟨-, -, rfl⟩
                · exact absurd rfl hne
                · simpa using this
              · 
                refine z_aload_n ho dX12_below_2_81 rfl ?_
                refine gX12_41 ho dX12_below_2_82 hkw ?_
                refine kX12_69 ho hN (c_last _ _ _ _ _ _ _ w3) dX12_below_2_85 (by omega) (Nat.le_of_ble_eq_true rfl) (Nat.le_of_ble_eq_true rfl) (Nat.le_of_ble_eq_true rfl) (fun x85 u85 h85 => ?_)
                obtain ⟨rfl, rfl⟩ := h85
                refine z_goto (tgt := 95) ho dX12_below_2_88 (by decide) ?_
                refine r_R ho dX12_below_2_95 (Nat.le_of_ble_eq_true rfl) (Nat.le_of_ble_eq_true rfl) ?_
                refine ⟨rfl, ?_⟩
                have := t2 c68
                have e3 := ((WT.mem _ _ _ _ _ w3).2.2 c78).1
                simp only [List.getLast?_append] at this
                cases hq : es3.getLast? with
                | none => exact absurd (List.getLast?_eq_none_iff.mp hq) e3
                | some x => rw [hq] at this; exact this
            · 
              refine z_aload ho dX12_below_2_71 rfl ?_
              refine r_R ho dX12_below_2_73 (Nat.le_of_ble_eq_true rfl) (Nat.le_of_ble_eq_true rfl) ?_
              exact ⟨rfl, t1 c68⟩
        · rw [rk] at c24
          refine z_aload_n ho dX12_below_2_27 rfl ?_
          refine gX12_32 ho dX12_below_2_28 hkw ?_
          refine z_aload_n ho dX12_below_2_31 rfl ?_
          refine z_iload_n ho dX12_below_2_32 rfl ?_
          refine z_iload_n ho dX12_below_2_33 rfl ?_
          refine kX12_76 ho hN (ih _ _ _ _ _ _ w1 hs hi) dX12_below_2_34 (by omega) (Nat.le_of_ble_eq_true rfl) (Nat.le_of_ble_eq_true rfl) (Nat.le_of_ble_eq_true rfl) (fun x34 u34 h34 => ?_)
          obtain ⟨rfl, h1⟩ := h34
          refine r_R ho dX12_below_2_37 (Nat.le_of_ble_eq_true rfl) (Nat.le_of_ble_eq_true rfl) ?_
          refine ⟨rfl, ?_⟩
          refine h1.skip (fun x hx' => ?_)
          simp only [List.mem_append] at hx'
          rcases hx' with qq | qq | qq
          · exact okB_gt hk0 (a4 (by omega) x (by simp [qq]))
          · exact okB_gt hk0 (a4 (by omega) x (by simp [qq]))
          · exact okB_gt hk0 (a3 (by omega) x qq)
      · 
        refine z_null ho dX12_below_2_12 ?_
        refine r_R ho dX12_below_2_13 (Nat.le_of_ble_eq_true rfl) (Nat.le_of_ble_eq_true rfl) ?_
        refine ⟨rfl, Blw.no (fun x hx => ?_)⟩
        obtain ⟨-, d, s, hh⟩ := (WT.mem _ _ _ _ _ h).1 x hx
        have hq : q = [] := List.eq_nil_of_length_eq_zero (by omega)
        refine okB_gt hk0 ?_
        rw [hs, hh, hq]
        exact lt_app p (lt_nil d s)
/-! ===== the CharTree ===== -/
theorem nd_sub : ∀ (l m : List Nat), l.Nodup → (∀ x ∈ l, x ∈ m) → l.length ≤ m.length := by
  intro l
  induction l with
  | nil => intro m _ _; simp
  | cons a l ih =>
    intro m hn hs
    obtain ⟨h1, h2⟩ := List.nodup_cons.mp hn
    have ha := hs a List.mem_cons_self
    have := ih (m.erase a) h2 (fun x hx => (List.mem_erase_of_ne (fun e => h1 (by rw [← e]; exact hx))).mpr (hs x (List.mem_cons_of_mem _ hx)))
    rw [List.length_erase_of_mem ha] at this
    have := List.length_pos_of_mem ha
    simp only [List.length_cons]
    omega
theorem sorted_nd {u : Mem} {es : List Nat} (h : es.Pairwise (fun x y => tx u x < tx u y)) : es.Nodup := h.imp (fun {a b} hab e => by rw [e] at hab; exact li_irr _ hab)
/-- a CharTree holds the entries S -/
def CT (u : Mem) (t : Nat) (S : List Nat) : Prop := kd_ u t = 12 ∧ ∃ n es0 es fp, Ent u (rv_ u t 3) [] es0 ∧ WT u n [] (rv_ u t 2) es fp ∧ ∀ e, e ∈ S ↔ e ∈ es0 ++ es
theorem CT.fit {u : Mem} {t : Nat} {S : List Nat} (h : CT u t S) (hS : S.length ≤ 64) : ∃ es0 es fp, Ent u (rv_ u t 3) [] es0 ∧ WT u 512 [] (rv_ u t 2) es fp ∧ (∀ e, e ∈ S ↔ e ∈ es0 ++ es) ∧ (es0 ++ es).Pairwise (fun x y => tx u x < tx u y) := by
  obtain ⟨-, n, es0, es, fp, h1, h2, h3⟩ := h
  have hso := WT.sorted _ _ _ _ _ h2
  have hle := nd_sub es S (sorted_nd hso) (fun x hx => (h3 x).mpr (by simp [hx]))
  have := WT.many _ _ _ _ _ h2
  refine ⟨es0, es, fp, h1, WT.mono _ _ _ _ _ _ (WT.fit _ _ _ _ _ h2) (by simp at this; omega), h3, List.pairwise_append.mpr ⟨?_, hso, fun a ha b hb => ?_⟩⟩
  · rcases h1 with ⟨-, rfl⟩ | ⟨-, -, rfl⟩
    · exact List.Pairwise.nil
    · simp
  · obtain ⟨-, d, s, hh⟩ := (WT.mem _ _ _ _ _ h2).1 b hb
    rcases h1 with ⟨-, rfl⟩ | ⟨-, h1, rfl⟩
    · simp at ha
    · rw [List.mem_singleton.mp ha, h1, hh]
      exact lt_nil d s
theorem Abv.qAb {u : Mem} {S es : List Nat} {k : Nat} {st : Int} {r : Nat} (h : Abv u es k st r) (hS : ∀ e, e ∈ S ↔ e ∈ es) (hs : es.Pairwise (fun x y => tx u x < tx u y)) : qAb u S k st r := by
  obtain ⟨A, B, rfl, h1, h2, rfl⟩ := h
  exact qAb_of hS hs rfl h1 h2
theorem Blw.qBe {u : Mem} {S es : List Nat} {k : Nat} {st : Int} {r : Nat} (h : Blw u es k st r) (hS : ∀ e, e ∈ S ↔ e ∈ es) (hs : es.Pairwise (fun x y => tx u x < tx u y)) : qBe u S k st r := by
  obtain ⟨A, B, rfl, h1, h2, rfl⟩ := h
  exact qBe_of hS hs rfl h1 h2
theorem c_CT_above (l : Launch) (u : Mem) {t k : Nat} {S : List Nat} {st : Int} (hT : CT u t S) (hS : S.length ≤ 64) (hk : k = 0 ∨ Ky u k) (hst : st = 0 ∨ st = 1) : Mt_ l yX12_above cX12_above 3 (some (.object "KeyHall$Entry")) 1100 0 0 [aR t, aR k, aI st] u (qR fun r u' => u = u' ∧ qAb u S k st r) := by
  obtain ⟨es0, es, fp, hent, hwt, hiff, hso⟩ := hT.fit hS
  have ht := hT.1
  refine Mt_of (by decide) (Nat.le_of_ble_eq_true rfl) (fun X ho hX hN hI => ?_)
  subst hX
  show Z X 0 [some (aR t), some (aR k), some (aI st)] [] u 0 0
  refine z_wf (fun hw => ?_)
  have hpos : ∀ e ∈ es, ∃ d s, tx u e = d :: s := fun e he => by
    obtain ⟨-, d, s, hh⟩ := (WT.mem _ _ _ _ _ hwt).1 e he
    exact ⟨d, s, hh⟩
  have fin : (∀ e ∈ es0, ¬ okA u k st e) → Z X 27 [some (aR t), some (aR k), some (aI st)] [] u 0 0 := by
    intro h0
    refine z_aload_n ho dX12_above_27 rfl ?_
    refine z_ifnonnull (tgt := 41) ho dX12_above_28 (by decide) (fun c28 => ?_) (fun c28 => ?_)
    · have hky := hk.resolve_left c28
      refine z_aload_n ho dX12_above_41 rfl ?_
      refine gX12_19 ho dX12_above_42 ht ?_
      refine z_aload_n ho dX12_above_45 rfl ?_
      refine z_iconst ho dX12_above_46 ?_
      refine z_iload_n ho dX12_above_47 rfl ?_
      refine kX12_72 ho hN (c_above_2 _ _ hky hst _ _ [] (tx u k) _ _ _ hwt rfl rfl) dX12_above_48 (Nat.le_of_ble_eq_true rfl) (Nat.le_of_ble_eq_true rfl) (Nat.le_of_ble_eq_true rfl) (Nat.le_of_ble_eq_true rfl) (fun x48 u48 h48 => ?_)
      obtain ⟨rfl, h1⟩ := h48
      refine r_R ho dX12_above_51 (Nat.le_of_ble_eq_true rfl) (Nat.le_of_ble_eq_true rfl) ?_
      exact ⟨rfl, (h1.skip h0).qAb hiff hso⟩
    · 
      refine z_aload_n ho dX12_above_31 rfl ?_
      refine gX12_19 ho dX12_above_32 ht ?_
      refine kX12_66 ho hN (c_first_here _ _ _ _ _ _ _ hwt) dX12_above_35 (Nat.le_of_ble_eq_true rfl) (Nat.le_of_ble_eq_true rfl) (Nat.le_of_ble_eq_true rfl) (Nat.le_of_ble_eq_true rfl) (fun x35 u35 h35 => ?_)
      obtain ⟨rfl, rfl⟩ := h35
      refine z_goto (tgt := 51) ho dX12_above_38 (by decide) ?_
      refine r_R ho dX12_above_51 (Nat.le_of_ble_eq_true rfl) (Nat.le_of_ble_eq_true rfl) ?_
      exact ⟨rfl, ((Abv.all (fun x _ => Or.inl c28)).skip h0).qAb hiff hso⟩
  have yes : es0 = [rv_ u t 3] → okA u k st (rv_ u t 3) → Z X 22 [some (aR t), some (aR k), some (aI st)] [] u 0 0 := by
    intro h0 hok
    refine z_aload_n ho dX12_above_22 rfl ?_
    refine gX12_13 ho dX12_above_23 ht ?_
    refine r_R ho dX12_above_26 (Nat.le_of_ble_eq_true rfl) (Nat.le_of_ble_eq_true rfl) ?_
    refine ⟨rfl, ?_⟩
    have : Abv u (es0 ++ es) k st ((es0 ++ es).head?.getD 0) := Abv.all (fun x hx => by
      rcases List.mem_append.mp hx with q | q
      · rw [h0] at q
        rw [List.mem_singleton.mp q]; exact hok
      · rcases hok with q2 | q2 | ⟨q2, q3⟩
        · exact Or.inl q2
        · obtain ⟨d, s, hh⟩ := hpos x q
          rcases hent with ⟨-, h⟩ | ⟨-, h, -⟩
          · rw [h] at h0; simp at h0
          · rw [h] at q2
            exact absurd q2 (List.not_lt_nil _)
        · obtain ⟨d, s, hh⟩ := hpos x q
          rcases hent with ⟨-, h⟩ | ⟨-, h, -⟩
          · rw [h] at h0; simp at h0
          · refine okA_gt ?_
            rw [← q3, h, hh]
            exact lt_nil d s)
    rw [h0] at this
    rw [← h0] at this
    have := this.qAb hiff hso
    rw [h0] at this
    exact this
  refine z_aload_n ho dX12_above_0 rfl ?_
  refine gX12_13 ho dX12_above_1 ht ?_
  refine z_ifnull (tgt := 27) ho dX12_above_4 (by decide) (fun c4 => ?_) (fun c4 => ?_)
  · rcases hent with ⟨-, h⟩ | ⟨h, -⟩
    · exact fin (fun e he => by rw [h] at he; simp at he)
    · exact absurd c4 (h.ne0 hw)
  · obtain ⟨h1, h2, h3⟩ := hent.resolve_left (fun q => c4 q.1)
    refine z_aload_n ho dX12_above_7 rfl ?_
    refine z_ifnull (tgt := 22) ho dX12_above_8 (by decide) (fun c8 => ?_) (fun c8 => ?_)
    · exact yes h3 (Or.inl c8)
    · have hky := hk.resolve_left c8
      have hl := hky.tx_len
      have hn := hky.2.2.2.2
      refine z_aload_n ho dX12_above_11 rfl ?_
      refine gX12_7 ho dX12_above_12 hky.1 ?_
      refine z_if_ne (tgt := 27) ho dX12_above_15 (by decide) (by unfold rng; omega) (fun c15 => ?_) (fun c15 => ?_)
      · refine fin (fun e he => ?_)
        rw [h3] at he
        rw [List.mem_singleton.mp he]
        refine okA_lt c8 ?_
        rw [h2]
        cases hq : tx u k with
        | nil => rw [hq] at hl; simp at hl; omega
        | cons d s => exact lt_nil d s
      · have hz : tx u k = [] := List.eq_nil_of_length_eq_zero (by omega)
        refine z_iload_n ho dX12_above_18 rfl ?_
        refine z_if_ne (tgt := 27) ho dX12_above_19 (by decide) (by unfold rng; omega) (fun c19 => ?_) (fun c19 => ?_)
        · refine fin (fun e he => ?_)
          rw [h3] at he
          rw [List.mem_singleton.mp he]
          obtain rfl : st = 1 := by omega
          exact okA_1 c8 (by rw [h2, hz])
        · exact yes h3 (Or.inr (Or.inr ⟨by omega, by rw [h2, hz]⟩))
theorem c_CT_below (l : Launch) (u : Mem) {t k : Nat} {S : List Nat} {st : Int} (hT : CT u t S) (hS : S.length ≤ 64) (hk : k = 0 ∨ Ky u k) (hst : st = 0 ∨ st = 1) : Mt_ l yX12_below cX12_below 4 (some (.object "KeyHall$Entry")) 1100 0 0 [aR t, aR k, aI st] u (qR fun r u' => u = u' ∧ qBe u S k st r) := by
  obtain ⟨es0, es, fp, hent, hwt, hiff, hso⟩ := hT.fit hS
  have ht := hT.1
  refine Mt_of (by decide) (Nat.le_of_ble_eq_true rfl) (fun X ho hX hN hI => ?_)
  subst hX
  show Z X 0 [some (aR t), some (aR k), some (aI st), none] [] u 0 0
  refine z_wf (fun hw => ?_)
  have key : ∀ r, Blw u es k st r → Z X 25 [some (aR t), some (aR k), some (aI st), some (aR r)] [] u 0 0 := by
    intro r h1
    have fin1 : (∀ e ∈ es0, okB u k st e) → r = 0 → Z X 46 [some (aR t), some (aR k), some (aI st), some (aR r)] [] u 0 0 := by
      intro hok hr
      refine z_aload_n ho dX12_below_46 rfl ?_
      refine gX12_13 ho dX12_below_47 ht ?_
      refine z_goto (tgt := 54) ho dX12_below_50 (by decide) ?_
      refine r_R ho dX12_below_54 (Nat.le_of_ble_eq_true rfl) (Nat.le_of_ble_eq_true rfl) ?_
      refine ⟨rfl, ?_⟩
      have := ((h1.thn (C := es0) hok (hwt.ne0 hw)).2 hr).qBe hiff hso
      rcases hent with ⟨q, h⟩ | ⟨-, -, h⟩
      · rw [h] at this
        rw [q]; exact this
      · rw [h] at this
        exact this
    have ok0 : (k = 0 ∨ tx u k ≠ [] ∨ st = 0) → ∀ e ∈ es0, okB u k st e := fun hc e he => by
      rcases hent with ⟨-, h⟩ | ⟨-, h2, h⟩
      · rw [h] at he; simp at he
      · rw [h] at he
        rw [List.mem_singleton.mp he]
        rcases hc with q | q | q
        · exact Or.inl q
        · refine okB_lt ?_
          rw [h2]
          cases hq : tx u k with
          | nil => exact absurd hq q
          | cons d s => exact lt_nil d s
        · by_cases hq : tx u k = []
          · exact Or.inr (Or.inr ⟨q, by rw [h2, hq]⟩)
          · refine okB_lt ?_
            rw [h2]
            cases hq' : tx u k with
            | nil => exact absurd hq' hq
            | cons d s => exact lt_nil d s
    refine z_aload_n ho dX12_below_25 rfl ?_
    refine z_ifnull (tgt := 31) ho dX12_below_26 (by decide) (fun c26 => ?_) (fun c26 => ?_)
    · 
      refine z_aload_n ho dX12_below_31 rfl ?_
      refine z_ifnull (tgt := 46) ho dX12_below_32 (by decide) (fun c32 => ?_) (fun c32 => ?_)
      · exact fin1 (ok0 (Or.inl c32)) c26
      · have hky := hk.resolve_left c32
        have hl := hky.tx_len
        have hn := hky.2.2.2.2
        refine z_aload_n ho dX12_below_35 rfl ?_
        refine gX12_7 ho dX12_below_36 hky.1 ?_
        refine z_if_gt (tgt := 46) ho dX12_below_39 (by decide) (by unfold rng; omega) (fun c39 => ?_) (fun c39 => ?_)
        · exact fin1 (ok0 (Or.inr (Or.inl (fun e => by rw [e] at hl; simp at hl; omega)))) c26
        · have hz : tx u k = [] := List.eq_nil_of_length_eq_zero (by omega)
          refine z_iload_n ho dX12_below_42 rfl ?_
          refine z_if_ne (tgt := 53) ho dX12_below_43 (by decide) (by unfold rng; omega) (fun c43 => ?_) (fun c43 => ?_)
          · 
            refine z_null ho dX12_below_53 ?_
            refine r_R ho dX12_below_54 (Nat.le_of_ble_eq_true rfl) (Nat.le_of_ble_eq_true rfl) ?_
            refine ⟨rfl, ?_⟩
            obtain rfl : st = 1 := by omega
            have : Blw u (es0 ++ es) k 1 0 := Blw.no (fun x hx => by
              rcases List.mem_append.mp hx with q | q
              · rcases hent with ⟨-, h⟩ | ⟨-, h2, h⟩
                · rw [h] at q; simp at q
                · rw [h] at q
                  rw [List.mem_singleton.mp q]
                  exact okB_1 c32 (by rw [h2, hz])
              · obtain ⟨-, d, s, hh⟩ := (WT.mem _ _ _ _ _ hwt).1 x q
                refine okB_gt c32 ?_
                rw [hz, hh]
                exact lt_nil d s)
            exact this.qBe hiff hso
          · exact fin1 (ok0 (Or.inr (Or.inr (by omega)))) c26
    · 
      refine z_aload_n ho dX12_below_29 rfl ?_
      refine r_R ho dX12_below_30 (Nat.le_of_ble_eq_true rfl) (Nat.le_of_ble_eq_true rfl) ?_
      refine ⟨rfl, ?_⟩
      have hne : k = 0 ∨ tx u k ≠ [] := by
        by_cases h0 : k = 0
        · exact Or.inl h0
        · refine Or.inr (fun e => c26 (h1.none (fun x hx => ?_)))
          obtain ⟨-, d, s, hh⟩ := (WT.mem _ _ _ _ _ hwt).1 x hx
          refine okB_gt h0 ?_
          rw [e, hh]
          exact lt_nil d s
      exact ((h1.thn (C := es0) (ok0 (by rcases hne with q | q; (· exact Or.inl q); exact Or.inr (Or.inl q))) (hwt.ne0 hw)).1 c26).qBe hiff hso
  refine z_aload_n ho dX12_below_0 rfl ?_
  refine z_ifnonnull (tgt := 14) ho dX12_below_1 (by decide) (fun c1 => ?_) (fun c1 => ?_)
  · have hky := hk.resolve_left c1
    refine z_aload_n ho dX12_below_14 rfl ?_
    refine gX12_19 ho dX12_below_15 ht ?_
    refine z_aload_n ho dX12_below_18 rfl ?_
    refine z_iconst ho dX12_below_19 ?_
    refine z_iload_n ho dX12_below_20 rfl ?_
    refine kX12_76 ho hN (c_below_2 _ _ hky hst _ _ [] (tx u k) _ _ _ hwt rfl rfl) dX12_below_21 (Nat.le_of_ble_eq_true rfl) (Nat.le_of_ble_eq_true rfl) (Nat.le_of_ble_eq_true rfl) (Nat.le_of_ble_eq_true rfl) (fun x21 u21 h21 => ?_)
    obtain ⟨rfl, h1⟩ := h21
    refine z_astore_n ho dX12_below_24 (Nat.le_of_ble_eq_true rfl) rfl ?_
    exact key _ h1
  · 
    refine z_aload_n ho dX12_below_4 rfl ?_
    refine gX12_19 ho dX12_below_5 ht ?_
    refine kX12_69 ho hN (c_last _ _ _ _ _ _ _ hwt) dX12_below_8 (Nat.le_of_ble_eq_true rfl) (Nat.le_of_ble_eq_true rfl) (Nat.le_of_ble_eq_true rfl) (Nat.le_of_ble_eq_true rfl) (fun x8 u8 h8 => ?_)
    obtain ⟨rfl, rfl⟩ := h8
    refine z_goto (tgt := 24) ho dX12_below_11 (by decide) ?_
    refine z_astore_n ho dX12_below_24 (Nat.le_of_ble_eq_true rfl) rfl ?_
    exact key _ (Blw.all (fun x _ => Or.inl c1))
theorem c_CT_get (l : Launch) (u : Mem) {t k : Nat} {S : List Nat} (hT : CT u t S) (hk : Ky u k) : Mt_ l yX12_get cX12_get 4 (some (.object "KeyHall$Entry")) 0 0 0 [aR t, aR k] u (qR fun r u' => u = u' ∧ qGet u S k r) := by
  obtain ⟨ht, n, es0, es, fp, hent, hwt, hiff⟩ := hT
  have hlen := hk.tx_len
  have hk' := hk
  obtain ⟨kk, rk, ck, lk, nk, nk8, vk⟩ := hk'
  refine Mt_of (by decide) (Nat.le_of_ble_eq_true rfl) (fun X ho hX hN hI => ?_)
  subst hX
  show Z X 0 [some (aR t), some (aR k), none, none] [] u 0 0
  refine z_wf (fun hw => ?_)
  refine z_aload_n ho dX12_get_0 rfl ?_
  refine gX12_7 ho dX12_get_1 kk ?_
  refine z_if_ne (tgt := 12) ho dX12_get_4 (by decide) (by unfold rng; omega) (fun c4 => ?_) (fun c4 => ?_)
  · 
    refine z_aload_n ho dX12_get_12 rfl ?_
    refine gX12_19 ho dX12_get_13 ht ?_
    refine z_astore_n ho dX12_get_16 (Nat.le_of_ble_eq_true rfl) rfl ?_
    refine z_iconst ho dX12_get_17 ?_
    refine z_istore_n ho dX12_get_18 (Nat.le_of_ble_eq_true rfl) rfl ?_
    have hkn : tx u k ≠ [] := fun e => by rw [e] at hlen; simp at hlen; omega
    have key : ∀ (n w : Nat) (p q : List Int) (es' fp' : List Nat) (i : Int), WT u n p w es' fp' → tx u k = p ++ q → i = p.length → q ≠ [] → (∀ e ∈ S, tx u e = tx u k → e ∈ es') → (∀ e ∈ es', e ∈ S) → Z X 19 [some (aR t), some (aR k), some (aR w), some (aI i)] [] u 0 0 := by
      intro n
      induction n with
      | zero =>
        rintro w p q es' fp' i ⟨rfl, rfl, rfl⟩ hs hi hq h1 h2
        refine z_aload_n ho dX12_get_19 rfl ?_
        refine z_ifnull (tgt := 89) ho dX12_get_20 (by decide) (fun c20 => ?_) (fun c20 => ?_)
        · 
          refine z_null ho dX12_get_89 ?_
          refine r_R ho dX12_get_90 (Nat.le_of_ble_eq_true rfl) (Nat.le_of_ble_eq_true rfl) ?_
          exact ⟨rfl, Or.inl ⟨rfl, fun e he q => by have := h1 e he q; simp at this⟩⟩
        · exact absurd rfl c20
      | succ n ih =>
        intro w p q es' fp' i h hs hi hq h1 h2
        have hpl : (p.length : Int) + q.length = iv_ u k 1 := by rw [← hlen, hs]; simp
        have hql := List.length_pos_iff.mpr hq
        refine z_aload_n ho dX12_get_19 rfl ?_
        refine z_ifnull (tgt := 89) ho dX12_get_20 (by decide) (fun c20 => ?_) (fun c20 => ?_)
        · 
          refine z_null ho dX12_get_89 ?_
          refine r_R ho dX12_get_90 (Nat.le_of_ble_eq_true rfl) (Nat.le_of_ble_eq_true rfl) ?_
          subst c20
          have := (h.of0 hw).1
          subst this
          exact ⟨rfl, Or.inl ⟨rfl, fun e he q => by have := h1 e he q; simp at this⟩⟩
        · obtain ⟨m', hm', hkw, v0, v1, es1, es2, es3, es4, fp1, fp3, fp4, w1, w3, w4, hent, rfl, rfl, hne, -, lo, hi4⟩ := WT.node h c20
          obtain rfl : n = m' := by omega
          obtain ⟨q', hq'⟩ := hk.split hs hi (by omega)
          subst hq'
          simp only [List.length_cons] at hpl
          have hvx := vk i (by omega) (by omega)
          have m3 := (WT.mem _ _ _ _ _ w3).1
          have t2 : ∀ e ∈ es2, tx u e = p ++ [iv_ u w 0] := fun e he => by
            rcases hent with ⟨-, rfl⟩ | ⟨-, z2, rfl⟩
            · simp at he
            · rw [List.mem_singleton.mp he]; exact z2
          have t23 : ∀ e ∈ es2 ++ es3, ∃ s, tx u e = p ++ iv_ u w 0 :: s := fun e he => by
            rcases List.mem_append.mp he with q | q
            · exact ⟨[], t2 e q⟩
            · obtain ⟨-, d, s, hh⟩ := m3 e q
              exact ⟨d :: s, by rw [hh]; simp⟩
          -- where an entry with the text is
          have pos : ∀ e ∈ es1 ++ (es2 ++ (es3 ++ es4)), tx u e = tx u k → (e ∈ es1 ∧ iv_ u (k + 1) i < iv_ u w 0) ∨ (e ∈ es2 ++ es3 ∧ iv_ u (k + 1) i = iv_ u w 0) ∨ (e ∈ es4 ∧ iv_ u w 0 < iv_ u (k + 1) i) := fun e he hte => by
            simp only [List.mem_append] at he
            rw [hs] at hte
            rcases he with qq | qq | qq | qq
            · obtain ⟨d, s, g1, g2⟩ := lo e qq
              rw [g1] at hte
              have := (app_hd hte).1
              exact Or.inl ⟨qq, by omega⟩
            · obtain ⟨s, g1⟩ := t23 e (by simp [qq])
              rw [g1] at hte
              have := (app_hd hte).1
              exact Or.inr (Or.inl ⟨by simp [qq], by omega⟩)
            · obtain ⟨s, g1⟩ := t23 e (by simp [qq])
              rw [g1] at hte
              have := (app_hd hte).1
              exact Or.inr (Or.inl ⟨by simp [qq], by omega⟩)
            · obtain ⟨d, s, g1, g2⟩ := hi4 e qq
              rw [g1] at hte
              have := (app_hd hte).1
              exact Or.inr (Or.inr ⟨qq, by omega⟩)
          refine z_aload_n ho dX12_get_23 rfl ?_
          refine gX12_23 ho dX12_get_24 kk ?_
          refine z_iload_n ho dX12_get_27 rfl ?_
          refine z_cald ho dX12_get_28 (by rw [rk]; exact ck) (by omega) (by rw [rk, lk]; omega) ?_
          refine z_aload_n ho dX12_get_29 rfl ?_
          refine gX12_27 ho dX12_get_30 hkw ?_
          refine z_icmp_ge (tgt := 44) ho dX12_get_33 (by decide) (by rw [rk]; unfold rng; omega) (by unfold rng; omega) (fun c33 => ?_) (fun c33 => ?_)
          · 
            refine z_aload_n ho dX12_get_44 rfl ?_
            refine gX12_23 ho dX12_get_45 kk ?_
            refine z_iload_n ho dX12_get_48 rfl ?_
            refine z_cald ho dX12_get_49 (by rw [rk]; exact ck) (by omega) (by rw [rk, lk]; omega) ?_
            refine z_aload_n ho dX12_get_50 rfl ?_
            refine gX12_27 ho dX12_get_51 hkw ?_
            refine z_icmp_le (tgt := 65) ho dX12_get_54 (by decide) (by rw [rk]; unfold rng; omega) (by unfold rng; omega) (fun c54 => ?_) (fun c54 => ?_)
            · rw [rk] at c33 c54
              have hx : iv_ u (k + 1) i = iv_ u w 0 := by omega
              refine z_iinc ho dX12_get_65 rfl rfl ?_
              refine z_iload_n ho dX12_get_68 rfl ?_
              refine z_aload_n ho dX12_get_69 rfl ?_
              refine gX12_7 ho dX12_get_70 kk ?_
              refine z_icmp_ne (tgt := 81) ho dX12_get_73 (by decide) (by unfold rng; omega) (by unfold rng; omega) (fun c73 => ?_) (fun c73 => ?_)
              · 
                refine z_aload_n ho dX12_get_81 rfl ?_
                refine gX12_41 ho dX12_get_82 hkw ?_
                refine z_astore_n ho dX12_get_85 (Nat.le_of_ble_eq_true rfl) rfl ?_
                refine z_goto (tgt := 19) ho dX12_get_86 (by decide) ?_
                refine ih _ _ q' _ _ _ w3 (by rw [hs, hx]; simp) (by simp [hi]) (fun e => by rw [e] at hpl; simp at hpl; omega) (fun e he hte => ?_) (fun e he => h2 e (by simp [he]))
                rcases pos e (h1 e he hte) hte with ⟨-, z⟩ | ⟨z, -⟩ | ⟨-, z⟩
                · omega
                · rcases List.mem_append.mp z with z | z
                  · have := t2 e z
                    rw [hte, hs, hx] at this
                    have := (app_hd this).2
                    rw [this] at hpl
                    simp at hpl
                    omega
                  · exact z
                · omega
              · 
                refine z_aload_n ho dX12_get_76 rfl ?_
                refine gX12_38 ho dX12_get_77 hkw ?_
                refine r_R ho dX12_get_80 (Nat.le_of_ble_eq_true rfl) (Nat.le_of_ble_eq_true rfl) ?_
                refine ⟨rfl, ?_⟩
                have hq' : q' = [] := List.eq_nil_of_length_eq_zero (by omega)
                have hn3 : ∀ e ∈ S, tx u e = tx u k → e ∈ es2 := fun e he hte => by
                  rcases pos e (h1 e he hte) hte with ⟨-, z⟩ | ⟨z, -⟩ | ⟨-, z⟩
                  · omega
                  · rcases List.mem_append.mp z with z | z
                    · exact z
                    · obtain ⟨-, d, s, hh⟩ := m3 e z
                      rw [hte, hs, hq', hx] at hh
                      simp at hh
                  · omega
                rcases hent with ⟨z, rfl⟩ | ⟨-, z2, rfl⟩
                · exact Or.inl ⟨z, fun e he hte => by have := hn3 e he hte; simp at this⟩
                · exact Or.inr ⟨h2 _ (by simp), by rw [z2, hs, hq', hx]⟩
            · rw [rk] at c33 c54
              refine z_aload_n ho dX12_get_57 rfl ?_
              refine gX12_35 ho dX12_get_58 hkw ?_
              refine z_astore_n ho dX12_get_61 (Nat.le_of_ble_eq_true rfl) rfl ?_
              refine z_goto (tgt := 19) ho dX12_get_62 (by decide) ?_
              refine ih _ _ _ _ _ _ w4 hs hi hq (fun e he hte => ?_) (fun e he => h2 e (by simp [he]))
              rcases pos e (h1 e he hte) hte with ⟨-, z⟩ | ⟨-, z⟩ | ⟨z, -⟩
              · omega
              · omega
              · exact z
          · rw [rk] at c33
            refine z_aload_n ho dX12_get_36 rfl ?_
            refine gX12_32 ho dX12_get_37 hkw ?_
            refine z_astore_n ho dX12_get_40 (Nat.le_of_ble_eq_true rfl) rfl ?_
            refine z_goto (tgt := 19) ho dX12_get_41 (by decide) ?_
            refine ih _ _ _ _ _ _ w1 hs hi hq (fun e he hte => ?_) (fun e he => h2 e (by simp [he]))
            rcases pos e (h1 e he hte) hte with ⟨z, -⟩ | ⟨-, z⟩ | ⟨-, z⟩
            · exact z
            · omega
            · omega
    refine key n _ [] (tx u k) es fp 0 hwt rfl rfl hkn (fun e he hte => ?_) (fun e he => (hiff e).mpr (by simp [he]))
    rcases List.mem_append.mp ((hiff e).mp he) with z | z
    · rcases hent with ⟨-, h⟩ | ⟨-, h2, h⟩
      · rw [h] at z; simp at z
      · rw [h] at z
        rw [List.mem_singleton.mp z, h2] at hte
        exact absurd hte.symm hkn
    · exact z
  · 
    refine z_aload_n ho dX12_get_7 rfl ?_
    refine gX12_13 ho dX12_get_8 ht ?_
    refine r_R ho dX12_get_11 (Nat.le_of_ble_eq_true rfl) (Nat.le_of_ble_eq_true rfl) ?_
    refine ⟨rfl, ?_⟩
    have hz : tx u k = [] := List.eq_nil_of_length_eq_zero (by omega)
    rcases hent with ⟨z, h⟩ | ⟨-, h2, h⟩
    · refine Or.inl ⟨z, fun e he hte => ?_⟩
      have := (hiff e).mp he
      rw [h] at this
      obtain ⟨-, d, s, hh⟩ := (WT.mem _ _ _ _ _ hwt).1 e (by simpa using this)
      rw [hte, hz] at hh
      simp at hh
    · exact Or.inr ⟨(hiff _).mpr (by simp [h]), by rw [h2, hz]⟩
