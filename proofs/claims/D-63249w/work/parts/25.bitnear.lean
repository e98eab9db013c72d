set_option maxRecDepth 100000
/-! ===== BitTree: get, aside, nearest ===== -/
/-- what a map's get answers -/
def qGet (u : Mem) (S : List Nat) (k r : Nat) : Prop := (r = 0 ∧ ∀ e ∈ S, tx u e ≠ tx u k) ∨ (r ∈ S ∧ tx u r = tx u k)
/-- not below a key (k 0: any), or above it (st 1) -/
def okA (u : Mem) (k : Nat) (st : Int) (e : Nat) : Prop := k = 0 ∨ (tx u k < tx u e) ∨ (st = 0 ∧ tx u e = tx u k)
def okB (u : Mem) (k : Nat) (st : Int) (e : Nat) : Prop := k = 0 ∨ (tx u e < tx u k) ∨ (st = 0 ∧ tx u e = tx u k)
def qAb (u : Mem) (S : List Nat) (k : Nat) (st : Int) (r : Nat) : Prop := (r = 0 ∧ ∀ e ∈ S, ¬ okA u k st e) ∨ (r ∈ S ∧ okA u k st r ∧ ∀ e ∈ S, okA u k st e → e = r ∨ tx u r < tx u e)
def qBe (u : Mem) (S : List Nat) (k : Nat) (st : Int) (r : Nat) : Prop := (r = 0 ∧ ∀ e ∈ S, ¬ okB u k st e) ∨ (r ∈ S ∧ okB u k st r ∧ ∀ e ∈ S, okB u k st e → e = r ∨ tx u e < tx u r)
/-- a BitTree holds the entries S -/
def BT (u : Mem) (t : Nat) (S : List Nat) : Prop := kd_ u t = 4 ∧ ((rv_ u t 2 = 0 ∧ S = []) ∨ ∃ n es fp, FT u n (rv_ u t 2) es fp ∧ ∀ e, e ∈ S ↔ e ∈ es)
theorem agr.all {s t : List Int} (h : s = t) (i : Int) : agr s t i := fun j _ _ => by rw [h]
theorem agr_eq {s t : List Int} (hs : Tx s) (ht : Tx t) (h : agr s t 136) : s = t := bits_inj s t hs ht (fun j a b => h j a b)
theorem c_BT_get (l : Launch) (u : Mem) {t k : Nat} {S : List Nat} (hT : BT u t S) (hk : Ky u k) : Mt_ l yX4_get cX4_get 3 (some (.object "KeyHall$Entry")) 2 0 0 [aR t, aR k] u (qR fun r u' => u = u' ∧ qGet u S k r) := by
  obtain ⟨ht, hT⟩ := hT
  refine Mt_of (by decide) (Nat.le_of_ble_eq_true rfl) (fun X ho hX hN hI => ?_)
  subst hX
  show Z X 0 [some (aR t), some (aR k), none] [] u 0 0
  refine z_wf (fun hw => ?_)
  refine z_aload_n ho dX4_get_0 rfl ?_
  refine gX4_7 ho dX4_get_1 ht ?_
  refine z_ifnonnull (tgt := 9) ho dX4_get_4 (by decide) (fun c4 => ?_) (fun c4 => ?_)
  · rcases hT with ⟨h0, -⟩ | ⟨n, es, fp, hf, hS⟩
    · exact absurd h0 c4
    · 
      refine z_aload_n ho dX4_get_9 rfl ?_
      refine z_aload_n ho dX4_get_10 rfl ?_
      refine kX4_32 ho hN (c_near _ _ ht hf hk) dX4_get_11 (by assumption) (Nat.le_of_ble_eq_true rfl) (Nat.le_of_ble_eq_true rfl) (Nat.le_of_ble_eq_true rfl) (Nat.le_of_ble_eq_true rfl) (fun x11 u11 h11 => ?_)
      obtain ⟨rfl, h1, h2⟩ := h11
      have en := (FT.mem u _ _ _ _ hf).2.1
      have e1 := en x11 h1
      have hcmp : cmpT (tx u x11) (tx u k) = 0 ↔ tx u x11 = tx u k := by
        unfold cmpT
        constructor
        · intro q
          split at q
          · assumption
          · split at q <;> omega
        · intro q; rw [if_pos q]
      have hr : rng (cmpT (tx u x11) (tx u k)) := by unfold cmpT rng; split <;> (try split) <;> omega
      refine z_astore_n ho dX4_get_14 (Nat.le_of_ble_eq_true rfl) rfl ?_
      refine z_aload_n ho dX4_get_15 rfl ?_
      refine z_aload_n ho dX4_get_16 rfl ?_
      refine kX4_36 ho hN (c_compareTo _ _ e1.1 hk) dX4_get_17 e1.2 (Nat.le_of_ble_eq_true rfl) (Nat.le_of_ble_eq_true rfl) (Nat.le_of_ble_eq_true rfl) (Nat.le_of_ble_eq_true rfl) (fun x17 u17 h17 => ?_)
      obtain ⟨rfl, rfl⟩ := h17
      refine z_if_ne (tgt := 27) ho dX4_get_20 (by decide) hr (fun c20 => ?_) (fun c20 => ?_)
      · 
        refine z_null ho dX4_get_27 ?_
        refine r_R ho dX4_get_28 (Nat.le_of_ble_eq_true rfl) (Nat.le_of_ble_eq_true rfl) ?_
        refine ⟨rfl, Or.inl ⟨rfl, fun e he q => ?_⟩⟩
        have := h2 e ((hS e).mp he) 136 (agr.all q 136)
        exact c20 (hcmp.mpr (agr_eq e1.1.Tx hk.Tx this))
      · 
        refine z_aload_n ho dX4_get_23 rfl ?_
        refine z_goto (tgt := 28) ho dX4_get_24 (by decide) ?_
        refine r_R ho dX4_get_28 (Nat.le_of_ble_eq_true rfl) (Nat.le_of_ble_eq_true rfl) ?_
        exact ⟨rfl, Or.inr ⟨(hS _).mpr h1, hcmp.mp c20⟩⟩
  · 
    refine z_null ho dX4_get_7 ?_
    refine r_R ho dX4_get_8 (Nat.le_of_ble_eq_true rfl) (Nat.le_of_ble_eq_true rfl) ?_
    rcases hT with ⟨h0, rfl⟩ | ⟨n, es, fp, hf, hS⟩
    · exact ⟨rfl, Or.inl ⟨rfl, fun e he => by simp at he⟩⟩
    · have := hf.kd
      rw [c4] at this
      have := hw.1 0 (by omega)
      omega
/-- the best branch so far, and what lies on its other side -/
def Bst (u : Mem) (way : Int) (best : Nat) (Ls Rs : List Nat) : Prop :=
  (best = 0 ∧ (way = 0 → Rs = []) ∧ (way = 1 → Ls = [])) ∨
  (best ≠ 0 ∧ kd_ u best = 15 ∧ ∃ n es fp, FT u n (if way = 0 then rv_ u best 2 else rv_ u best 1) es fp ∧ (way = 0 → ∃ R, Rs = es ++ R) ∧ (way = 1 → ∃ L, Ls = L ++ es))
/-- the cut of the entries at a key, down to a bit -/
def Cut (u : Mem) (es : List Nat) (k e0 : Nat) (Ls eg Rs : List Nat) : Prop := es = Ls ++ (eg ++ Rs) ∧ e0 ∈ eg ∧ (∀ x ∈ Ls, tx u x < tx u k) ∧ (∀ x ∈ Rs, tx u k < tx u x)
/-- one step of the walk -/
theorem Cut.step {u : Mem} {es : List Nat} {k e0 n f : Nat} {Ls Rs es1 es2 fp1 fp2 : List Nat} {bit : Int} (hk : Ky u k) (hc : Cut u es k e0 Ls (es1 ++ es2) Rs) (hag : agr (tx u e0) (tx u k) bit) (hb : iv_ u f 0 < bit) (h0 : 0 ≤ iv_ u f 0) (en : ∀ e ∈ es1 ++ es2, En u e)
    (b1 : ∀ e ∈ es1, bitL (tx u e) (iv_ u f 0) = 0) (b2 : ∀ e ∈ es2, bitL (tx u e) (iv_ u f 0) = 1) (b3 : ∀ e ∈ es1 ++ es2, ∀ e' ∈ es1 ++ es2, ∀ j, 0 ≤ j → j < iv_ u f 0 → bitL (tx u e) j = bitL (tx u e') j) :
    (bitL (tx u k) (iv_ u f 0) = 0 → Cut u es k e0 Ls es1 (es2 ++ Rs)) ∧ (bitL (tx u k) (iv_ u f 0) = 1 → Cut u es k e0 (Ls ++ es1) es2 Rs) := by
  obtain ⟨h1, h2, h3, h4⟩ := hc
  have he0 := hag (iv_ u f 0) h0 hb
  have ag2 : ∀ x ∈ es1 ++ es2, ∀ j, 0 ≤ j → j < iv_ u f 0 → bitL (tx u x) j = bitL (tx u k) j := fun x hx j j0 j1 => by rw [b3 x hx e0 h2 j j0 j1]; exact hag j j0 (by omega)
  constructor
  · intro hz
    refine ⟨by rw [h1]; simp [List.append_assoc], ?_, h3, fun x hx => ?_⟩
    · rcases List.mem_append.mp h2 with q | q
      · exact q
      · rw [b2 e0 q, hz] at he0; omega
    · rcases List.mem_append.mp hx with q | q
      · have fd : fdf (tx u k) (tx u x) (iv_ u f 0) := ⟨h0, fun j j0 j1 => (ag2 x (by simp [q]) j j0 j1).symm, by rw [hz, b2 x q]; decide⟩
        exact (fdf_iff hk.Tx (en x (by simp [q])).1.Tx fd).1.mpr hz
      · exact h4 x q
  · intro hz
    refine ⟨by rw [h1]; simp [List.append_assoc], ?_, fun x hx => ?_, h4⟩
    · rcases List.mem_append.mp h2 with q | q
      · rw [b1 e0 q, hz] at he0; omega
      · exact q
    · rcases List.mem_append.mp hx with q | q
      · exact h3 x q
      · have fd : fdf (tx u x) (tx u k) (iv_ u f 0) := ⟨h0, fun j j0 j1 => ag2 x (by simp [q]) j j0 j1, by rw [hz, b1 x q]; decide⟩
        exact (fdf_iff (en x (by simp [q])).1.Tx hk.Tx fd).1.mpr (b1 x q)
/-- where a walk down to a bit stops: a leaf, or a branch at the bit or behind it -/
def Stp_ (u : Mem) (g : Nat) (bit : Int) : Prop := rv_ u g 3 ≠ 0 ∨ bit ≤ iv_ u g 0
theorem c_aside (l : Launch) (u : Mem) {n t k e0 : Nat} {es fp : List Nat} {bit way : Int} (ht : kd_ u t = 4) (hf : FT u n (rv_ u t 2) es fp) (hk : Ky u k) (he0 : e0 ∈ es) (hag : agr (tx u e0) (tx u k) bit) (hb : rng bit) (hway : way = 0 ∨ way = 1) :
    Mt_ l yX4_aside cX4_aside 6 (some (.object "KeyHall$Entry")) 2 0 0 [aR t, aR k, aI bit, aI way] u (qR fun r u' => u = u' ∧ ∃ n' g Ls eg Rs fg, FT u n' g eg fg ∧ Cut u es k e0 Ls eg Rs ∧ Stp_ u g bit ∧ (way = 0 → r = Rs.head?.getD 0) ∧ (way = 1 → r = Ls.getLast?.getD 0)) := by
  refine Mt_of (by decide) (Nat.le_of_ble_eq_true rfl) (fun X ho hX hN hI => ?_)
  subst hX
  show Z X 0 [some (aR t), some (aR k), some (aI bit), some (aI way), none, none] [] u 0 0
  refine z_wf (fun hw => ?_)
  refine z_null ho dX4_aside_0 ?_
  refine z_astore ho dX4_aside_1 (Nat.le_of_ble_eq_true rfl) rfl ?_
  refine z_aload_n ho dX4_aside_3 rfl ?_
  refine gX4_7 ho dX4_aside_4 ht ?_
  refine z_astore ho dX4_aside_7 (Nat.le_of_ble_eq_true rfl) rfl ?_
  have fin : ∀ (n' g best : Nat) (Ls eg Rs fg : List Nat), FT u n' g eg fg → Cut u es k e0 Ls eg Rs → Stp_ u g bit → Bst u way best Ls Rs → Z X 62 [some (aR t), some (aR k), some (aI bit), some (aI way), some (aR best), some (aR g)] [] u 0 0 := by
    intro n' g best Ls eg Rs fg hg hc hs hbst
    refine z_aload ho dX4_aside_62 rfl ?_
    refine z_ifnonnull (tgt := 71) ho dX4_aside_64 (by decide) (fun c64 => ?_) (fun c64 => ?_)
    · rcases hbst with ⟨h0, -⟩ | ⟨h0, hkb, m, es1, fp1, hes, hr, hl⟩
      · exact absurd h0 c64
      · 
        refine z_aload ho dX4_aside_71 rfl ?_
        refine z_iconst ho dX4_aside_73 ?_
        refine z_iload_n ho dX4_aside_74 rfl ?_
        refine z_isub ho dX4_aside_75 ?_
        refine kX4_28 ho hN (c_Fork_to _ _ hkb (by unfold rng; omega)) dX4_aside_76 (by assumption) (Nat.le_of_ble_eq_true rfl) (Nat.le_of_ble_eq_true rfl) (Nat.le_of_ble_eq_true rfl) (Nat.le_of_ble_eq_true rfl) (fun x76 u76 h76 => ?_)
        obtain ⟨rfl, rfl⟩ := h76
        have e1 : (if 1 - way = 0 then rv_ u best 1 else rv_ u best 2) = (if way = 0 then rv_ u best 2 else rv_ u best 1) := by
          rcases hway with rfl | rfl <;> rfl
        rw [e1]
        refine z_iload_n ho dX4_aside_79 rfl ?_
        refine kX4_62 ho hN (c_Fork_end _ _ hes hway) dX4_aside_80 hes.kd (Nat.le_of_ble_eq_true rfl) (Nat.le_of_ble_eq_true rfl) (Nat.le_of_ble_eq_true rfl) (Nat.le_of_ble_eq_true rfl) (fun x80 u80 h80 => ?_)
        obtain ⟨rfl, h1, h2⟩ := h80
        refine r_R ho dX4_aside_83 (Nat.le_of_ble_eq_true rfl) (Nat.le_of_ble_eq_true rfl) ?_
        refine ⟨rfl, n', g, Ls, eg, Rs, fg, hg, hc, hs, fun q => ?_, fun q => ?_⟩
        · obtain ⟨R, rfl⟩ := hr q
          rw [List.head?_append, h1 q]
          rfl
        · obtain ⟨L, rfl⟩ := hl q
          rw [List.getLast?_append, h2 q]
          rfl
    · 
      refine z_null ho dX4_aside_67 ?_
      refine z_goto (tgt := 83) ho dX4_aside_68 (by decide) ?_
      refine r_R ho dX4_aside_83 (Nat.le_of_ble_eq_true rfl) (Nat.le_of_ble_eq_true rfl) ?_
      rcases hbst with ⟨h0, hr, hl⟩ | ⟨h0, -⟩
      · exact ⟨rfl, n', g, Ls, eg, Rs, fg, hg, hc, hs, fun q => by rw [hr q]; rfl, fun q => by rw [hl q]; rfl⟩
      · exact absurd c64 h0
  have key : ∀ (n f best : Nat) (Ls ef Rs fp' : List Nat), FT u n f ef fp' → Cut u es k e0 Ls ef Rs → Bst u way best Ls Rs → Z X 9 [some (aR t), some (aR k), some (aI bit), some (aI way), some (aR best), some (aR f)] [] u 0 0 := by
    intro n
    induction n with
    | zero => intro f best Ls ef Rs fp' h; exact h.elim
    | succ n ih =>
      intro f best Ls ef Rs fp' h hc hbst
      have hm := FT.mem u _ _ _ _ h
      have h' := h
      obtain ⟨hkf, h⟩ := h
      refine z_aload ho dX4_aside_9 rfl ?_
      refine gX4_13 ho dX4_aside_11 hkf ?_
      refine z_ifnonnull (tgt := 62) ho dX4_aside_14 (by decide) (fun c14 => ?_) (fun c14 => ?_)
      · exact fin _ _ _ _ _ _ _ h' hc (Or.inl c14) hbst
      · rcases h with ⟨e, g1, g2, rfl, rfl⟩ | ⟨g1, g2, g3, es1, es2, fp1, fp2, f1, f2, rfl, rfl, -, -, -, b1, b2, b3⟩
        · rw [g1] at c14
          exact absurd c14 (g2.ne0 hw)
        · 
          refine z_aload ho dX4_aside_17 rfl ?_
          refine gX4_19 ho dX4_aside_19 hkf ?_
          refine z_iload_n ho dX4_aside_22 rfl ?_
          refine z_icmp_ge (tgt := 62) ho dX4_aside_23 (by decide) (by unfold rng; omega) hb (fun c23 => ?_) (fun c23 => ?_)
          · exact fin _ _ _ _ _ _ _ h' hc (Or.inr c23) hbst
          · have h01 := bitL_01 (tx u k) (iv_ u f 0)
            obtain ⟨s0, s1⟩ := Cut.step (n := n) (fp1 := fp1) (fp2 := fp2) hk hc hag c23 g2 hm.2.1 b1 b2 b3
            have hf0 : f ≠ 0 := (hw.1 f (by rw [hkf]; decide)).2
            have nxt : ∀ best', (bitL (tx u k) (iv_ u f 0) = way → best' = f) → (bitL (tx u k) (iv_ u f 0) ≠ way → best' = best) → Z X 43 [some (aR t), some (aR k), some (aI bit), some (aI way), some (aR best'), some (aR f)] [] u 0 0 := by
              intro best' q1 q2
              refine z_aload ho dX4_aside_43 rfl ?_
              refine z_aload_n ho dX4_aside_45 rfl ?_
              refine z_aload ho dX4_aside_46 rfl ?_
              refine gX4_19 ho dX4_aside_48 hkf ?_
              refine kX4_23 ho hN (c_bit _ _ hk g2 (by omega)) dX4_aside_51 hk.1 (Nat.le_of_ble_eq_true rfl) (Nat.le_of_ble_eq_true rfl) (Nat.le_of_ble_eq_true rfl) (Nat.le_of_ble_eq_true rfl) (fun x51 u51 h51 => ?_)
              obtain ⟨rfl, rfl⟩ := h51
              refine kX4_28 ho hN (c_Fork_to _ _ hkf (by unfold rng; omega)) dX4_aside_54 (by assumption) (Nat.le_of_ble_eq_true rfl) (Nat.le_of_ble_eq_true rfl) (Nat.le_of_ble_eq_true rfl) (Nat.le_of_ble_eq_true rfl) (fun x54 u54 h54 => ?_)
              obtain ⟨rfl, rfl⟩ := h54
              refine z_astore ho dX4_aside_57 (Nat.le_of_ble_eq_true rfl) rfl ?_
              refine z_goto (tgt := 9) ho dX4_aside_59 (by decide) ?_
              by_cases hz : bitL (tx u k) (iv_ u f 0) = 0
              · rw [if_pos hz]
                refine ih _ _ _ _ _ _ f1 (s0 hz) ?_
                rcases hway with rfl | rfl
                · rw [q1 hz]
                  exact Or.inr ⟨hf0, hkf, n, es2, fp2, by rw [if_pos rfl]; exact f2, fun _ => ⟨Rs, rfl⟩, fun q => by omega⟩
                · rw [q2 (by omega)]
                  rcases hbst with ⟨h0, hr, hl⟩ | ⟨h0, hkb, m, es3, fp3, hes, hr, hl⟩
                  · exact Or.inl ⟨h0, fun q => by omega, hl⟩
                  · exact Or.inr ⟨h0, hkb, m, es3, fp3, hes, fun q => by omega, hl⟩
              · rw [if_neg hz]
                have hz1 : bitL (tx u k) (iv_ u f 0) = 1 := by omega
                refine ih _ _ _ _ _ _ f2 (s1 hz1) ?_
                rcases hway with rfl | rfl
                · rw [q2 (by omega)]
                  rcases hbst with ⟨h0, hr, hl⟩ | ⟨h0, hkb, m, es3, fp3, hes, hr, hl⟩
                  · exact Or.inl ⟨h0, hr, fun q => by omega⟩
                  · exact Or.inr ⟨h0, hkb, m, es3, fp3, hes, hr, fun q => by omega⟩
                · rw [q1 hz1]
                  exact Or.inr ⟨hf0, hkf, n, es1, fp1, by rw [if_neg (by decide)]; exact f1, fun q => by omega, fun _ => ⟨Ls, rfl⟩⟩
            refine z_aload_n ho dX4_aside_26 rfl ?_
            refine z_aload ho dX4_aside_27 rfl ?_
            refine gX4_19 ho dX4_aside_29 hkf ?_
            refine kX4_23 ho hN (c_bit _ _ hk g2 (by omega)) dX4_aside_32 hk.1 (Nat.le_of_ble_eq_true rfl) (Nat.le_of_ble_eq_true rfl) (Nat.le_of_ble_eq_true rfl) (Nat.le_of_ble_eq_true rfl) (fun x32 u32 h32 => ?_)
            obtain ⟨rfl, rfl⟩ := h32
            refine z_iload_n ho dX4_aside_35 rfl ?_
            refine z_icmp_ne (tgt := 43) ho dX4_aside_36 (by decide) (by unfold rng; omega) (by unfold rng; omega) (fun c36 => ?_) (fun c36 => ?_)
            · exact nxt best (fun q => absurd q c36) (fun _ => rfl)
            · 
              refine z_aload ho dX4_aside_39 rfl ?_
              refine z_astore ho dX4_aside_41 (Nat.le_of_ble_eq_true rfl) rfl ?_
              exact nxt f (fun _ => rfl) (fun q => absurd c36 q)
  exact key n _ 0 [] es [] fp hf ⟨by simp, he0, fun x hx => by simp at hx, fun x hx => by simp at hx⟩ (Or.inl ⟨rfl, fun _ => rfl, fun _ => rfl⟩)
