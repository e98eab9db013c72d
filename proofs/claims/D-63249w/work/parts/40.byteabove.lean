set_option maxRecDepth 100000
/-! ===== ByteTree: above, below ===== -/
theorem kid_cut {cs : List Kid} (hs : Srt (kx cs)) (b : Int) : ∃ c1 md c2 : List Kid, cs = c1 ++ (md ++ c2) ∧ (∀ c ∈ c1, c.1 < b) ∧ (∀ c ∈ c2, b < c.1) ∧ ((md = [] ∧ lk b (kx cs) = 0) ∨ ∃ c, md = [c] ∧ c.1 = b ∧ lk b (kx cs) = c.2.1) := by
  induction cs with
  | nil => exact ⟨[], [], [], rfl, fun c h => by simp at h, fun c h => by simp at h, Or.inl ⟨rfl, rfl⟩⟩
  | cons d cs ih =>
    have hp := List.pairwise_cons.mp hs.1
    have hs' : Srt (kx cs) := ⟨hp.2, fun x hx => hs.2 x (List.mem_cons_of_mem _ hx)⟩
    have hlt : ∀ c ∈ cs, d.1 < c.1 := fun c hc => hp.1 (c.1, c.2.1) (mem_kx.mpr ⟨c, hc, rfl⟩)
    have elk : lk b (kx (d :: cs)) = if d.1 = b then d.2.1 else lk b (kx cs) := rfl
    rcases Int.lt_trichotomy d.1 b with q | q | q
    · obtain ⟨c1, md, c2, h1, h2, h3, h4⟩ := ih hs'
      refine ⟨d :: c1, md, c2, by rw [h1]; rfl, fun c hc => ?_, h3, ?_⟩
      · rcases List.mem_cons.mp hc with rfl | z
        · exact q
        · exact h2 c z
      · rw [elk, if_neg (by omega)]; exact h4
    · refine ⟨[], [d], cs, rfl, fun c h => by simp at h, fun c hc => by have := hlt c hc; omega, Or.inr ⟨d, rfl, q, by rw [elk, if_pos q]⟩⟩
    · refine ⟨[], [], d :: cs, rfl, fun c h => by simp at h, fun c hc => ?_, Or.inl ⟨rfl, ?_⟩⟩
      · rcases List.mem_cons.mp hc with rfl | z
        · exact q
        · have := hlt c z; omega
      · refine (lk_0 hs).mpr (fun x hx => ?_)
        obtain ⟨c, hc, rfl⟩ := mem_kx.mp hx
        rcases List.mem_cons.mp hc with rfl | z
        · simp only; omega
        · have := hlt c z; simp only; omega
/-- the kid behind b, as from(b + 1) finds it -/
theorem kid_after {cs c1 md c2 : List Kid} {b r : Int} (hs : Srt (kx cs)) (he : cs = c1 ++ (md ++ c2)) (h1 : ∀ c ∈ c1, c.1 < b) (h2 : ∀ c ∈ c2, b < c.1) (hm : ∀ c ∈ md, c.1 = b) (h : Frm (b + 1) (kx cs) r) : (c2 = [] ∧ r = -1) ∨ ∃ c c2', c2 = c :: c2' ∧ r = c.1 ∧ lk r (kx cs) = c.2.1 := by
  cases c2 with
  | nil =>
    refine Or.inl ⟨rfl, ?_⟩
    rcases h with ⟨g, -⟩ | ⟨A, x, B, g1, g2, g3, -⟩
    · exact g
    · have hx : x ∈ kx cs := by rw [g1]; simp
      obtain ⟨c, hc, rfl⟩ := mem_kx.mp hx
      rw [he] at hc
      simp only [List.append_nil, List.mem_append] at hc g3
      rcases hc with z | z
      · have := h1 c z; omega
      · have := hm c z; omega
  | cons c c2 =>
    have hcm : c ∈ cs := by rw [he]; simp
    have hbc := h2 c List.mem_cons_self
    refine Or.inr ⟨c, c2, rfl, ?_⟩
    have hr : r = c.1 := by
      rcases h with ⟨-, g⟩ | ⟨A, x, B, g1, g2, g3, g4⟩
      · have := g (c.1, c.2.1) (mem_kx.mpr ⟨c, hcm, rfl⟩)
        simp only at this
        omega
      · have hx : x ∈ kx cs := by rw [g1]; simp
        obtain ⟨d, hd, hdx⟩ := mem_kx.mp hx
        have hxd : x.1 = d.1 := by rw [← hdx]
        have hle : c.1 ≤ d.1 := by
          rw [he] at hd
          simp only [List.mem_append, List.mem_cons] at hd
          rcases hd with z | z | z | z
          · have := h1 d z; omega
          · have := hm d z; omega
          · rw [z]; exact Int.le_refl _
          · have hp := hs.1
            rw [he, kx_app, kx_app] at hp
            have hp2 := (List.pairwise_append.mp (List.pairwise_append.mp hp).2.1).2.1
            have := (List.pairwise_cons.mp hp2).1 (d.1, d.2.1) (mem_kx.mpr ⟨d, z, rfl⟩)
            simp only at this
            omega
        have hge : d.1 ≤ c.1 := by
          have hc' : (c.1, c.2.1) ∈ A ++ x :: B := by rw [← g1]; exact mem_kx.mpr ⟨c, hcm, rfl⟩
          rcases List.mem_append.mp hc' with z | z
          · have := g4 _ z; simp only at this; omega
          · rcases List.mem_cons.mp z with z | z
            · rw [← hxd, ← z]; exact Int.le_refl _
            · have := (hs.before g1).2 _ z; simp only at this; omega
        omega
    exact ⟨hr, by rw [hr]; exact lk_of hs (mem_kx.mpr ⟨c, hcm, rfl⟩)⟩
theorem kid_before {cs c1 md c2 : List Kid} {b r : Int} (hs : Srt (kx cs)) (he : cs = c1 ++ (md ++ c2)) (h1 : ∀ c ∈ c1, c.1 < b) (h2 : ∀ c ∈ c2, b < c.1) (hm : ∀ c ∈ md, c.1 = b) (h : Upt (b - 1) (kx cs) r) : (c1 = [] ∧ r = -1) ∨ ∃ c c1', c1 = c1' ++ [c] ∧ r = c.1 ∧ lk r (kx cs) = c.2.1 := by
  rcases List.eq_nil_or_concat c1 with rfl | ⟨c1', c, hc1⟩
  · refine Or.inl ⟨rfl, ?_⟩
    rcases h with ⟨g, -⟩ | ⟨A, x, B, g1, g2, g3, -⟩
    · exact g
    · have hx : x ∈ kx cs := by rw [g1]; simp
      obtain ⟨c, hc, rfl⟩ := mem_kx.mp hx
      rw [he] at hc
      simp only [List.nil_append, List.mem_append] at hc g3
      rcases hc with z | z
      · have := hm c z; omega
      · have := h2 c z; omega
  · rw [List.concat_eq_append] at hc1
    subst hc1
    have hcm : c ∈ cs := by rw [he]; simp
    have hbc := h1 c (by simp)
    refine Or.inr ⟨c, c1', rfl, ?_⟩
    have hr : r = c.1 := by
      rcases h with ⟨-, g⟩ | ⟨A, x, B, g1, g2, g3, g4⟩
      · have := g (c.1, c.2.1) (mem_kx.mpr ⟨c, hcm, rfl⟩)
        simp only at this
        omega
      · have hx : x ∈ kx cs := by rw [g1]; simp
        obtain ⟨d, hd, hdx⟩ := mem_kx.mp hx
        have hxd : x.1 = d.1 := by rw [← hdx]
        have hge : d.1 ≤ c.1 := by
          rw [he] at hd
          simp only [List.mem_append, List.mem_singleton] at hd
          rcases hd with (z | z) | z | z
          · have hp := hs.1
            rw [he, kx_app, kx_app] at hp
            have := (List.pairwise_append.mp (List.pairwise_append.mp hp).1).2.2 (d.1, d.2.1) (mem_kx.mpr ⟨d, z, rfl⟩) (c.1, c.2.1) (mem_kx.mpr ⟨c, by simp, rfl⟩)
            simp only at this
            omega
          · rw [z]; exact Int.le_refl _
          · have := hm d z; omega
          · have := h2 d z; omega
        have hle : c.1 ≤ d.1 := by
          have hc' : (c.1, c.2.1) ∈ A ++ x :: B := by rw [← g1]; exact mem_kx.mpr ⟨c, hcm, rfl⟩
          rcases List.mem_append.mp hc' with z | z
          · have := (hs.before g1).1 _ z; simp only at this; omega
          · rcases List.mem_cons.mp z with z | z
            · rw [← hxd, ← z]; exact Int.le_refl _
            · have := g4 _ z; simp only at this; omega
        omega
    exact ⟨hr, by rw [hr]; exact lk_of hs (mem_kx.mpr ⟨c, hcm, rfl⟩)⟩
/-- how entries lie to a key by bytes -/
theorem oc_gt {u : Mem} {e k : Nat} {P s q : List Int} {b c : Int} (he : Ky u e) (hk : Ky u k) (h1 : oc u e = P ++ b :: s) (h2 : oc u k = P ++ c :: q) : (b < c → tx u e < tx u k) ∧ (c < b → tx u k < tx u e) := by
  rw [he.oc_lt hk, hk.oc_lt he, h1, h2]
  exact ⟨fun h => lt_app P (lt_hd h _ _), fun h => lt_app P (lt_hd h _ _)⟩
theorem oc_pre {u : Mem} {e k : Nat} {P s : List Int} {b : Int} (he : Ky u e) (hk : Ky u k) (h1 : oc u e = P ++ b :: s) (h2 : oc u k = P) : tx u k < tx u e := by
  rw [hk.oc_lt he, h1, h2]
  have := lt_app P (lt_nil b s)
  rw [List.append_nil] at this
  exact this
theorem c_Y_above_2 (l : Launch) (u : Mem) {k : Nat} {st : Int} (hk : Ky u k) (hst : st = 0 ∨ st = 1) : ∀ (n t : Nat) (rt : Bool) (p q : List Int) (es fp : List Nat) (i : Int), TN u (TT u n) rt p t es fp → es ≠ [] → oc u k = p ++ q → i = p.length →
    Mt_ l yX5_above_2 cX5_above_2 10 (some (.object "KeyHall$Entry")) (n + 4) 0 0 [aR t, aR k, aI i, aI st] u (qR fun r u' => u = u' ∧ Abv u es k st r) := by
  have hol := hk.oc_len
  have body : ∀ n : Nat, (∀ (t : Nat) (p q : List Int) (es fp : List Nat) (i : Int), TT u n p t es fp → oc u k = p ++ q → i = p.length → Mt_ l yX5_above_2 cX5_above_2 10 (some (.object "KeyHall$Entry")) (n + 3) 0 0 [aR t, aR k, aI i, aI st] u (qR fun r u' => u = u' ∧ Abv u es k st r)) →
      ∀ (t : Nat) (rt : Bool) (p q : List Int) (es fp : List Nat) (i : Int), TN u (TT u n) rt p t es fp → es ≠ [] → oc u k = p ++ q → i = p.length → Mt_ l yX5_above_2 cX5_above_2 10 (some (.object "KeyHall$Entry")) (n + 4) 0 0 [aR t, aR k, aI i, aI st] u (qR fun r u' => u = u' ∧ Abv u es k st r) := by
    intro n hrec
    intro t rt p q es fp i h hne ho' hi
    have h' := h
    obtain ⟨kt, hp, cs, es0, hF, he, hc, rfl, rfl, -, hne2⟩ := h
    obtain ⟨kp, lp, n0, n1, hpx⟩ := hp
    have hpl := pth_len n0
    have hlen : (p.length : Int) + q.length = 2 * ((tx u k).length : Int) := by rw [← hol.1, ho']; simp
    have hl16 := hol.2
    rw [ho', List.length_append] at hl16
    refine Mt_of (by decide) (Nat.le_of_ble_eq_true rfl) (fun X ho hX hN hI => ?_)
    subst hX
    show Z X 0 [some (aR t), some (aR k), some (aI i), some (aI st), none, none, none, none, none, none] [] u 0 0
    refine z_wf (fun hw => ?_)
    have hk0 := (hk.lt hw).2.2
    have enk : ∀ c ∈ cs, ∀ e ∈ c.2.2.1, En u e ∧ ∃ s, oc u e = (p ++ pth u t) ++ c.1 :: s := fun c hcm e hce => by
      obtain ⟨h1, s, h2⟩ := (TT.mem _ _ _ _ _ (hc c hcm)).1 e hce
      exact ⟨h1, s, by rw [h2]; simp⟩
    have ene : ∀ e ∈ es0 ++ ke cs, En u e ∧ ∃ s, oc u e = p ++ (pth u t ++ s) := fun e hee => by
      rcases List.mem_append.mp hee with z | z
      · rcases he with ⟨-, rfl⟩ | ⟨h1, h2, rfl⟩
        · simp at z
        · rw [List.mem_singleton.mp z]; exact ⟨h1, [], by rw [h2]; simp⟩
      · obtain ⟨c, hcm, hce⟩ := mem_ke.mp z
        obtain ⟨h1, s, h2⟩ := enk c hcm e hce
        exact ⟨h1, c.1 :: s, by rw [h2]; simp⟩
    have t0 : ∀ e ∈ es0, En u e ∧ oc u e = p ++ pth u t ∧ es0 = [rv_ u t 2] := fun e hee => by
      rcases he with ⟨-, rfl⟩ | ⟨h1, h2, rfl⟩
      · simp at hee
      · rw [List.mem_singleton.mp hee]; exact ⟨h1, h2, rfl⟩
    have hnz : ∀ e ∈ es0 ++ ke cs, e ≠ 0 := fun e hee => (ene e hee).1.ne0 hw
    have hsz := hF.size
    rw [kx_len] at hsz
    have hsl := hF.srt.len
    rw [kx_len] at hsl
    refine z_aload_n ho dX5_above_2_0 rfl ?_
    refine z_aload_n ho dX5_above_2_1 rfl ?_
    refine z_iload_n ho dX5_above_2_2 rfl ?_
    refine kX5_30 ho hN (c_common _ _ kt ⟨kp, lp, n0, n1, hpx⟩ hk ho' hi) dX5_above_2_3 kt (by omega) (Nat.le_of_ble_eq_true rfl) (Nat.le_of_ble_eq_true rfl) (Nat.le_of_ble_eq_true rfl) (fun x3 u3 h3 => ?_)
    obtain ⟨rfl, A, B, C, hAB, hAC, rfl, hd⟩ := h3
    have hAl : (pth u t).length = A.length + B.length := by rw [hAB]; simp
    have hCl : q.length = A.length + C.length := by rw [hAC]; simp
    refine z_istore ho dX5_above_2_6 (Nat.le_of_ble_eq_true rfl) rfl ?_
    refine z_iload_n ho dX5_above_2_8 rfl ?_
    refine z_iload ho dX5_above_2_9 rfl ?_
    refine z_iadd ho dX5_above_2_11 ?_
    refine z_istore ho dX5_above_2_12 (Nat.le_of_ble_eq_true rfl) rfl ?_
    refine z_iload ho dX5_above_2_14 rfl ?_
    refine z_aload_n ho dX5_above_2_16 rfl ?_
    refine gX5_34 ho dX5_above_2_17 kt ?_
    refine z_icmp_ge (tgt := 57) ho dX5_above_2_20 (by decide) (by unfold rng; omega) (by unfold rng; omega) (fun c20 => ?_) (fun c20 => ?_)
    · -- the whole path
      have hB : B = [] := List.eq_nil_of_length_eq_zero (by omega)
      subst hB
      rw [List.append_nil] at hAB
      have hoc : oc u k = (p ++ pth u t) ++ C := by rw [ho', hAC, hAB]; simp
      refine z_iload ho dX5_above_2_57 rfl ?_
      refine z_aload_n ho dX5_above_2_59 rfl ?_
      refine kX5_37 ho hN (c_bytes _ _ hk) dX5_above_2_60 hk.1 (by omega) (Nat.le_of_ble_eq_true rfl) (Nat.le_of_ble_eq_true rfl) (Nat.le_of_ble_eq_true rfl) (fun x60 u60 h60 => ?_)
      obtain ⟨rfl, rfl⟩ := h60
      refine z_icmp_ne (tgt := 115) ho dX5_above_2_63 (by decide) (by unfold rng; omega) (by unfold rng; omega) (fun c63 => ?_) (fun c63 => ?_)
      · -- the key goes on
        cases C with
        | nil => simp at hCl; omega
        | cons b C =>
        have hat := hk.oc_at hoc
        rw [List.length_append] at hat
        have e1 : i + (A.length : Int) = ((p.length + (pth u t).length : Nat) : Int) := by rw [hi, hAB]; omega
        obtain ⟨c1, md, c2, hcs, g1, g2, g3⟩ := kid_cut hF.srt b
        have hmd : ∀ c ∈ md, c.1 = b := fun c hcm => by
          rcases g3 with ⟨rfl, -⟩ | ⟨d, rfl, z, -⟩
          · simp at hcm
          · rw [List.mem_singleton.mp hcm]; exact z
        have kes : ke cs = ke c1 ++ (ke md ++ ke c2) := by rw [hcs, ke_app, ke_app]
        have lo : ∀ x ∈ es0 ++ ke c1, ¬ okA u k st x := fun x hx => by
          rcases List.mem_append.mp hx with z | z
          · obtain ⟨z1, z2, -⟩ := t0 x z
            refine okA_lt hk0 ?_
            exact oc_pre hk z1.1 hoc z2
          · obtain ⟨c, hcm, hce⟩ := mem_ke.mp z
            obtain ⟨z1, s, z2⟩ := enk c (by rw [hcs]; simp [hcm]) x hce
            exact okA_lt hk0 ((oc_gt z1.1 hk z2 hoc).1 (g1 c hcm))
        have hi2 : ∀ x ∈ ke c2, okA u k st x := fun x hx => by
          obtain ⟨c, hcm, hce⟩ := mem_ke.mp hx
          obtain ⟨z1, s, z2⟩ := enk c (by rw [hcs]; simp [hcm]) x hce
          exact okA_gt ((oc_gt z1.1 hk z2 hoc).2 (g2 c hcm))
        have fin : ∀ e : Nat, Abv u (ke md) k st e → ∀ tm : Option AV, Z X 156 [some (aR t), some (aR k), some (aI i), some (aI st), some (aI (A.length : Int)), some (aI (i + (A.length : Int))), some (aI b), tm, some (aR e), none] [] u 0 0 := by
          intro e hab tm
          obtain ⟨t1, t2⟩ := hab.thn (C := ke c2) hi2 (fun x hx => hnz x (by rw [kes]; simp [hx]))
          have nxt : ∀ r : Int, ((c2 = [] ∧ r = -1) ∨ ∃ c c2', c2 = c :: c2' ∧ r = c.1 ∧ lk r (kx cs) = c.2.1) → Z X 179 [some (aR t), some (aR k), some (aI i), some (aI st), some (aI (A.length : Int)), some (aI (i + (A.length : Int))), some (aI b), tm, some (aR e), none] [aI r] u 0 0 := by
            intro r hr
            refine z_istore ho dX5_above_2_179 (Nat.le_of_ble_eq_true rfl) rfl ?_
            refine z_aload ho dX5_above_2_181 rfl ?_
            refine z_ifnull (tgt := 191) ho dX5_above_2_183 (by decide) (fun c183 => ?_) (fun c183 => ?_)
            · have hrr : rng r := by
                rcases hr with ⟨-, z⟩ | ⟨c, c2', z, z2, -⟩
                · unfold rng; omega
                · have := hF.srt.2 (c.1, c.2.1) (mem_kx.mpr ⟨c, by rw [hcs, z]; simp, rfl⟩)
                  simp only at this
                  unfold rng; omega
              refine z_iload ho dX5_above_2_191 rfl ?_
              refine z_iconst ho dX5_above_2_193 ?_
              refine z_icmp_ne (tgt := 201) ho dX5_above_2_194 (by decide) hrr (by unfold rng; omega) (fun c194 => ?_) (fun c194 => ?_)
              · obtain ⟨c, c2', z, z2, z3⟩ := hr.resolve_left (fun z => c194 z.2)
                have hcm : c ∈ cs := by rw [hcs, z]; simp
                have hcr := hF.srt.2 (c.1, c.2.1) (mem_kx.mpr ⟨c, hcm, rfl⟩)
                simp only at hcr
                have hcc := hc c hcm
                have hcn := (TT.mem _ _ _ _ _ hcc).2.2.1
                obtain ⟨m, -, hcc'⟩ := hcc.node
                refine z_aload_n ho dX5_above_2_201 rfl ?_
                refine gX5_47 ho dX5_above_2_202 kt ?_
                refine z_iload ho dX5_above_2_205 rfl ?_
                refine or_call (hF.k2) (fun hq cc => kX5_51_8 ho hN (c_G8_get _ _ hF (by omega) (by omega) hq) dX5_above_2_207 hq (by omega) (Nat.le_of_ble_eq_true rfl) (Nat.le_of_ble_eq_true rfl) (Nat.le_of_ble_eq_true rfl) cc) (fun hq cc => kX5_51_16 ho hN (c_G16_get _ _ hF (by omega) (by omega) hq) dX5_above_2_207 hq (by omega) (Nat.le_of_ble_eq_true rfl) (Nat.le_of_ble_eq_true rfl) (Nat.le_of_ble_eq_true rfl) cc) (fun x207 u207 h207 => ?_)
                obtain ⟨rfl, rfl⟩ := h207
                rw [z3]
                refine kX5_94 ho hN (c_T_first _ _ hcc' hcn) dX5_above_2_210 hcc.kd (by omega) (Nat.le_of_ble_eq_true rfl) (Nat.le_of_ble_eq_true rfl) (Nat.le_of_ble_eq_true rfl) (fun x210 u210 h210 => ?_)
                obtain ⟨rfl, hh⟩ := h210
                refine r_R ho dX5_above_2_213 (Nat.le_of_ble_eq_true rfl) (Nat.le_of_ble_eq_true rfl) ?_
                refine ⟨rfl, ?_⟩
                have := (t2 c183).skip lo
                rw [z] at this
                have e9 : (ke (c :: c2')).head?.getD 0 = x210 := by
                  show (c.2.2.1 ++ ke c2').head?.getD 0 = _
                  rw [List.head?_append, hh]; rfl
                rw [e9] at this
                rw [kes, z]
                simp only [List.append_assoc] at this ⊢
                exact this
              · have hc2 : c2 = [] := by
                  rcases hr with ⟨z, -⟩ | ⟨c, c2', z, z2, -⟩
                  · exact z
                  · have := hF.srt.2 (c.1, c.2.1) (mem_kx.mpr ⟨c, by rw [hcs, z]; simp, rfl⟩)
                    simp only at this
                    omega
                refine z_null ho dX5_above_2_197 ?_
                refine z_goto (tgt := 213) ho dX5_above_2_198 (by decide) ?_
                refine r_R ho dX5_above_2_213 (Nat.le_of_ble_eq_true rfl) (Nat.le_of_ble_eq_true rfl) ?_
                refine ⟨rfl, ?_⟩
                have := (t2 c183).skip lo
                rw [kes]
                subst hc2
                simp only [List.append_assoc] at this ⊢
                exact this
            · 
              refine z_aload ho dX5_above_2_186 rfl ?_
              refine z_goto (tgt := 213) ho dX5_above_2_188 (by decide) ?_
              refine r_R ho dX5_above_2_213 (Nat.le_of_ble_eq_true rfl) (Nat.le_of_ble_eq_true rfl) ?_
              refine ⟨rfl, ?_⟩
              have := (t1 c183).skip lo
              rw [kes]
              simp only [List.append_assoc] at this ⊢
              exact this
          refine z_iload ho dX5_above_2_156 rfl ?_
          refine z_sipush ho dX5_above_2_158 rfl ?_
          refine z_icmp_ne (tgt := 168) ho dX5_above_2_161 (by decide) (by unfold rng; omega) (by unfold rng; omega) (fun c161 => ?_) (fun c161 => ?_)
          · 
            refine z_aload_n ho dX5_above_2_168 rfl ?_
            refine gX5_47 ho dX5_above_2_169 kt ?_
            refine z_iload ho dX5_above_2_172 rfl ?_
            refine z_iconst ho dX5_above_2_174 ?_
            refine z_iadd ho dX5_above_2_175 ?_
            refine or_call (hF.k2) (fun hq cc => kX5_98_8 ho hN (c_G8_from _ _ hF (by omega) (by omega) hq) dX5_above_2_176 hq (by omega) (Nat.le_of_ble_eq_true rfl) (Nat.le_of_ble_eq_true rfl) (Nat.le_of_ble_eq_true rfl) cc) (fun hq cc => kX5_98_16 ho hN (c_G16_from _ _ hF (by omega) (by omega) hq) dX5_above_2_176 hq (by omega) (Nat.le_of_ble_eq_true rfl) (Nat.le_of_ble_eq_true rfl) (Nat.le_of_ble_eq_true rfl) cc) (fun x176 u176 h176 => ?_)
            obtain ⟨rfl, hfr⟩ := h176
            exact nxt _ (kid_after hF.srt hcs g1 g2 hmd hfr)
          · 
            refine z_iconst ho dX5_above_2_164 ?_
            refine z_goto (tgt := 179) ho dX5_above_2_165 (by decide) ?_
            refine nxt _ (Or.inl ⟨List.eq_nil_iff_forall_not_mem.mpr (fun c hcm => ?_), rfl⟩)
            have := g2 c hcm
            have := hF.srt.2 (c.1, c.2.1) (mem_kx.mpr ⟨c, by rw [hcs]; simp [hcm], rfl⟩)
            simp only at this
            omega
        refine z_aload_n ho dX5_above_2_115 rfl ?_
        refine z_iload ho dX5_above_2_116 rfl ?_
        refine kX5_43 ho hN (c_octet _ _ hk (by omega) (by rw [e1]; exact hat.2.1)) dX5_above_2_118 hk.1 (by omega) (Nat.le_of_ble_eq_true rfl) (Nat.le_of_ble_eq_true rfl) (Nat.le_of_ble_eq_true rfl) (fun x118 u118 h118 => ?_)
        obtain ⟨rfl, rfl⟩ := h118
        rw [e1, hat.1, ← e1]
        refine z_istore ho dX5_above_2_121 (Nat.le_of_ble_eq_true rfl) rfl ?_
        refine z_aload_n ho dX5_above_2_123 rfl ?_
        refine gX5_47 ho dX5_above_2_124 kt ?_
        refine z_iload ho dX5_above_2_127 rfl ?_
        refine or_call (hF.k2) (fun hq cc => kX5_51_8 ho hN (c_G8_get _ _ hF (by omega) (by omega) hq) dX5_above_2_129 hq (by omega) (Nat.le_of_ble_eq_true rfl) (Nat.le_of_ble_eq_true rfl) (Nat.le_of_ble_eq_true rfl) cc) (fun hq cc => kX5_51_16 ho hN (c_G16_get _ _ hF (by omega) (by omega) hq) dX5_above_2_129 hq (by omega) (Nat.le_of_ble_eq_true rfl) (Nat.le_of_ble_eq_true rfl) (Nat.le_of_ble_eq_true rfl) cc) (fun x129 u129 h129 => ?_)
        obtain ⟨rfl, rfl⟩ := h129
        refine z_astore ho dX5_above_2_132 (Nat.le_of_ble_eq_true rfl) rfl ?_
        refine z_aload ho dX5_above_2_134 rfl ?_
        refine z_ifnonnull (tgt := 143) ho dX5_above_2_136 (by decide) (fun c136 => ?_) (fun c136 => ?_)
        · rcases g3 with ⟨-, z⟩ | ⟨c, hc1, hc2, hlk⟩
          · exact absurd z c136
          have hcm : c ∈ cs := by rw [hcs, hc1]; simp
          have hcc := hc c hcm
          rw [hlk]
          refine z_aload ho dX5_above_2_143 rfl ?_
          refine z_aload_n ho dX5_above_2_145 rfl ?_
          refine z_iload ho dX5_above_2_146 rfl ?_
          refine z_iconst ho dX5_above_2_148 ?_
          refine z_iadd ho dX5_above_2_149 ?_
          refine z_iload_n ho dX5_above_2_150 rfl ?_
          refine kX5_101 ho hN (hrec _ _ C _ _ _ hcc (by rw [hoc, hc2]; simp) (by rw [e1]; simp; omega)) dX5_above_2_151 (by omega) (Nat.le_of_ble_eq_true rfl) (Nat.le_of_ble_eq_true rfl) (Nat.le_of_ble_eq_true rfl) (fun x151 u151 h151 => ?_)
          obtain ⟨rfl, hab⟩ := h151
          refine z_astore ho dX5_above_2_154 (Nat.le_of_ble_eq_true rfl) rfl ?_
          refine fin _ ?_ _
          rw [hc1]
          simpa [ke] using hab
        · 
          refine z_null ho dX5_above_2_139 ?_
          refine z_goto (tgt := 154) ho dX5_above_2_140 (by decide) ?_
          refine z_astore ho dX5_above_2_154 (Nat.le_of_ble_eq_true rfl) rfl ?_
          rcases g3 with ⟨z, -⟩ | ⟨c, hc1, hc2, hlk⟩
          · refine fin 0 ?_ _
            rw [z]
            exact Abv.no (fun x hx => by simp [ke] at hx)
          · have := hF.srt.2 (c.1, c.2.1) (mem_kx.mpr ⟨c, by rw [hcs, hc1]; simp, rfl⟩)
            rw [hlk] at c136
            exact absurd c136 this.2.2
      · -- the key ends here
        have hC : C = [] := List.eq_nil_of_length_eq_zero (by omega)
        subst hC
        rw [List.append_nil] at hoc
        have hik : ∀ x ∈ ke cs, okA u k st x := fun x hx => by
          obtain ⟨c, hcm, hce⟩ := mem_ke.mp hx
          obtain ⟨z1, s, z2⟩ := enk c hcm x hce
          exact okA_gt (oc_pre z1.1 hk z2 hoc)
        have fin : (∀ x ∈ es0, ¬ okA u k st x) → Z X 82 [some (aR t), some (aR k), some (aI i), some (aI st), some (aI (A.length : Int)), some (aI (i + (A.length : Int))), none, none, none, none] [] u 0 0 := by
          intro h0
          refine z_aload_n ho dX5_above_2_82 rfl ?_
          refine gX5_47 ho dX5_above_2_83 kt ?_
          refine gX5_81 ho dX5_above_2_86 hF.isF ?_
          refine z_if_ne (tgt := 96) ho dX5_above_2_89 (by decide) (by rw [hsz]; unfold rng; omega) (fun c89 => ?_) (fun c89 => ?_)
          · rw [hsz] at c89
            refine z_aload_n ho dX5_above_2_96 rfl ?_
            refine gX5_47 ho dX5_above_2_97 kt ?_
            refine z_aload_n ho dX5_above_2_100 rfl ?_
            refine gX5_47 ho dX5_above_2_101 kt ?_
            refine z_iconst ho dX5_above_2_104 ?_
            refine or_call (hF.k2) (fun hq cc => kX5_98_8 ho hN (c_G8_from _ _ hF (by omega) (by omega) hq) dX5_above_2_105 hq (by omega) (Nat.le_of_ble_eq_true rfl) (Nat.le_of_ble_eq_true rfl) (Nat.le_of_ble_eq_true rfl) cc) (fun hq cc => kX5_98_16 ho hN (c_G16_from _ _ hF (by omega) (by omega) hq) dX5_above_2_105 hq (by omega) (Nat.le_of_ble_eq_true rfl) (Nat.le_of_ble_eq_true rfl) (Nat.le_of_ble_eq_true rfl) cc) (fun x105 u105 h105 => ?_)
            obtain ⟨rfl, hfr⟩ := h105
            rcases kid_first hF.srt hfr with ⟨z, -⟩ | ⟨c, cs', hcs, hr, hlk⟩
            · rw [z] at c89; simp at c89
            have hcm : c ∈ cs := by rw [hcs]; simp
            have hcr := hF.srt.2 (c.1, c.2.1) (mem_kx.mpr ⟨c, hcm, rfl⟩)
            simp only at hcr
            have hcc := hc c hcm
            have hcn := (TT.mem _ _ _ _ _ hcc).2.2.1
            obtain ⟨m, -, hcc'⟩ := hcc.node
            refine or_call (hF.k2) (fun hq cc => kX5_51_8 ho hN (c_G8_get _ _ hF (by omega) (by omega) hq) dX5_above_2_108 hq (by omega) (Nat.le_of_ble_eq_true rfl) (Nat.le_of_ble_eq_true rfl) (Nat.le_of_ble_eq_true rfl) cc) (fun hq cc => kX5_51_16 ho hN (c_G16_get _ _ hF (by omega) (by omega) hq) dX5_above_2_108 hq (by omega) (Nat.le_of_ble_eq_true rfl) (Nat.le_of_ble_eq_true rfl) (Nat.le_of_ble_eq_true rfl) cc) (fun x108 u108 h108 => ?_)
            obtain ⟨rfl, rfl⟩ := h108
            rw [hlk]
            refine kX5_94 ho hN (c_T_first _ _ hcc' hcn) dX5_above_2_111 hcc.kd (by omega) (Nat.le_of_ble_eq_true rfl) (Nat.le_of_ble_eq_true rfl) (Nat.le_of_ble_eq_true rfl) (fun x111 u111 h111 => ?_)
            obtain ⟨rfl, hh⟩ := h111
            refine r_R ho dX5_above_2_114 (Nat.le_of_ble_eq_true rfl) (Nat.le_of_ble_eq_true rfl) ?_
            refine ⟨rfl, ?_⟩
            have := (Abv.all hik).skip h0
            have e9 : (ke cs).head?.getD 0 = x111 := by
              rw [hcs]
              show (c.2.2.1 ++ ke cs').head?.getD 0 = _
              rw [List.head?_append, hh]; rfl
            rw [e9] at this
            exact this
          · rw [hsz] at c89
            have hcs : cs = [] := List.eq_nil_of_length_eq_zero (by omega)
            refine z_null ho dX5_above_2_92 ?_
            refine z_goto (tgt := 114) ho dX5_above_2_93 (by decide) ?_
            refine r_R ho dX5_above_2_114 (Nat.le_of_ble_eq_true rfl) (Nat.le_of_ble_eq_true rfl) ?_
            refine ⟨rfl, ?_⟩
            have := (Abv.all hik).skip h0
            subst hcs
            exact this
        refine z_aload_n ho dX5_above_2_66 rfl ?_
        refine gX5_61 ho dX5_above_2_67 kt ?_
        refine z_ifnull (tgt := 82) ho dX5_above_2_70 (by decide) (fun c70 => ?_) (fun c70 => ?_)
        · refine fin (fun x hx => ?_)
          have := (t0 x hx)
          rw [this.2.2] at hx
          rw [List.mem_singleton.mp hx] at this
          exact absurd c70 (this.1.ne0 hw)
        · 
          refine z_iload_n ho dX5_above_2_73 rfl ?_
          refine z_if_ne (tgt := 82) ho dX5_above_2_74 (by decide) (by unfold rng; omega) (fun c74 => ?_) (fun c74 => ?_)
          · obtain rfl : st = 1 := by omega
            refine fin (fun x hx => ?_)
            exact okA_1 hk0 (oc_inj.mp ((t0 x hx).2.1.trans hoc.symm))
          · obtain rfl : st = 0 := by omega
            refine z_aload_n ho dX5_above_2_77 rfl ?_
            refine gX5_61 ho dX5_above_2_78 kt ?_
            refine r_R ho dX5_above_2_81 (Nat.le_of_ble_eq_true rfl) (Nat.le_of_ble_eq_true rfl) ?_
            refine ⟨rfl, ?_⟩
            rcases he with ⟨z, -⟩ | ⟨z1, z2, rfl⟩
            · exact absurd z c70
            · exact Abv.all (fun x hx => by
                rcases List.mem_append.mp hx with z | z
                · rw [List.mem_singleton.mp z]
                  exact Or.inr (Or.inr ⟨rfl, oc_inj.mp (z2.trans hoc.symm)⟩)
                · exact hik x z)
    · -- a part of the path
      cases B with
      | nil => simp at hAl; omega
      | cons b B =>
      have hbr := hpx b (by rw [hAB]; simp)
      have hg := pth_get hAB
      have enb : ∀ e ∈ es0 ++ ke cs, En u e ∧ ∃ s, oc u e = (p ++ A) ++ b :: s := fun e hee => by
        obtain ⟨h1, s, h2⟩ := ene e hee
        exact ⟨h1, B ++ s, by rw [h2, hAB]; simp⟩
      have up : (∀ x ∈ es0 ++ ke cs, okA u k st x) → Z X 48 [some (aR t), some (aR k), some (aI i), some (aI st), some (aI (A.length : Int)), some (aI (i + (A.length : Int))), none, none, none, none] [] u 0 0 := by
        intro hall
        refine z_aload_n ho dX5_above_2_48 rfl ?_
        refine kX5_94 ho hN (c_T_first _ _ h' hne) dX5_above_2_49 kt (by omega) (Nat.le_of_ble_eq_true rfl) (Nat.le_of_ble_eq_true rfl) (Nat.le_of_ble_eq_true rfl) (fun x49 u49 h49 => ?_)
        obtain ⟨rfl, hh⟩ := h49
        refine z_goto (tgt := 56) ho dX5_above_2_52 (by decide) ?_
        refine r_R ho dX5_above_2_56 (Nat.le_of_ble_eq_true rfl) (Nat.le_of_ble_eq_true rfl) ?_
        refine ⟨rfl, ?_⟩
        have := Abv.all hall
        rw [hh] at this
        exact this
      refine z_iload ho dX5_above_2_23 rfl ?_
      refine z_aload_n ho dX5_above_2_25 rfl ?_
      refine kX5_37 ho hN (c_bytes _ _ hk) dX5_above_2_26 hk.1 (by omega) (Nat.le_of_ble_eq_true rfl) (Nat.le_of_ble_eq_true rfl) (Nat.le_of_ble_eq_true rfl) (fun x26 u26 h26 => ?_)
      obtain ⟨rfl, rfl⟩ := h26
      refine z_icmp_eq (tgt := 48) ho dX5_above_2_29 (by decide) (by unfold rng; omega) (by unfold rng; omega) (fun c29 => ?_) (fun c29 => ?_)
      · have hC : C = [] := List.eq_nil_of_length_eq_zero (by omega)
        subst hC
        refine up (fun x hx => ?_)
        obtain ⟨z1, s, z2⟩ := enb x hx
        exact okA_gt (oc_pre z1.1 hk z2 (by rw [ho', hAC]; simp))
      · cases C with
        | nil => simp at hCl; omega
        | cons c C =>
        have hoc : oc u k = (p ++ A) ++ c :: C := by rw [ho', hAC]; simp
        have hat := hk.oc_at hoc
        rw [List.length_append] at hat
        have e1 : i + (A.length : Int) = ((p.length + A.length : Nat) : Int) := by rw [hi]; omega
        have hbc : b ≠ c := by
          rcases hd with z | z | ⟨b', B', c', C', z1, z2, z3⟩
          · simp at z
          · simp at z
          · cases z1; cases z2; exact z3
        refine z_aload_n ho dX5_above_2_32 rfl ?_
        refine z_iload ho dX5_above_2_33 rfl ?_
        refine kX5_43 ho hN (c_octet _ _ hk (by omega) (by rw [e1]; exact hat.2.1)) dX5_above_2_35 hk.1 (by omega) (Nat.le_of_ble_eq_true rfl) (Nat.le_of_ble_eq_true rfl) (Nat.le_of_ble_eq_true rfl) (fun x35 u35 h35 => ?_)
        obtain ⟨rfl, rfl⟩ := h35
        rw [e1, hat.1, ← e1]
        refine z_aload_n ho dX5_above_2_38 rfl ?_
        refine gX5_91 ho dX5_above_2_39 kt ?_
        refine z_iload ho dX5_above_2_42 rfl ?_
        refine z_iald ho dX5_above_2_44 kp (by omega) (by omega) ?_
        rw [hg]
        refine z_icmp_ge (tgt := 55) ho dX5_above_2_45 (by decide) (by unfold rng; omega) (by unfold rng; omega) (fun c45 => ?_) (fun c45 => ?_)
        · 
          refine z_null ho dX5_above_2_55 ?_
          refine r_R ho dX5_above_2_56 (Nat.le_of_ble_eq_true rfl) (Nat.le_of_ble_eq_true rfl) ?_
          refine ⟨rfl, Abv.no (fun x hx => ?_)⟩
          obtain ⟨z1, s, z2⟩ := enb x hx
          exact okA_lt hk0 ((oc_gt z1.1 hk z2 hoc).1 (by omega))
        · refine up (fun x hx => ?_)
          obtain ⟨z1, s, z2⟩ := enb x hx
          exact okA_gt ((oc_gt z1.1 hk z2 hoc).2 (by omega))
  intro n
  induction n with
  | zero => exact body 0 (fun t p q es fp i h => h.elim)
  | succ n ih => exact body (n + 1) (fun t p q es fp i h ho' hi => ih t false p q es fp i h ((TR.mem (n := n) (rt := false) h).2.2.1 rfl) ho' hi)
theorem c_Y_below_2 (l : Launch) (u : Mem) {k : Nat} {st : Int} (hk : Ky u k) (hst : st = 0 ∨ st = 1) : ∀ (n t : Nat) (rt : Bool) (p q : List Int) (es fp : List Nat) (i : Int), TN u (TT u n) rt p t es fp → es ≠ [] → oc u k = p ++ q → i = p.length →
    Mt_ l yX5_below_2 cX5_below_2 10 (some (.object "KeyHall$Entry")) (n + 4) 0 0 [aR t, aR k, aI i, aI st] u (qR fun r u' => u = u' ∧ Blw u es k st r) := by
  have hol := hk.oc_len
  have body : ∀ n : Nat, (∀ (t : Nat) (p q : List Int) (es fp : List Nat) (i : Int), TT u n p t es fp → oc u k = p ++ q → i = p.length → Mt_ l yX5_below_2 cX5_below_2 10 (some (.object "KeyHall$Entry")) (n + 3) 0 0 [aR t, aR k, aI i, aI st] u (qR fun r u' => u = u' ∧ Blw u es k st r)) →
      ∀ (t : Nat) (rt : Bool) (p q : List Int) (es fp : List Nat) (i : Int), TN u (TT u n) rt p t es fp → es ≠ [] → oc u k = p ++ q → i = p.length → Mt_ l yX5_below_2 cX5_below_2 10 (some (.object "KeyHall$Entry")) (n + 4) 0 0 [aR t, aR k, aI i, aI st] u (qR fun r u' => u = u' ∧ Blw u es k st r) := by
    intro n hrec
    intro t rt p q es fp i h hne ho' hi
    have h' := h
    obtain ⟨kt, hp, cs, es0, hF, he, hc, rfl, rfl, -, hne2⟩ := h
    obtain ⟨kp, lp, n0, n1, hpx⟩ := hp
    have hpl := pth_len n0
    have hlen : (p.length : Int) + q.length = 2 * ((tx u k).length : Int) := by rw [← hol.1, ho']; simp
    have hl16 := hol.2
    rw [ho', List.length_append] at hl16
    refine Mt_of (by decide) (Nat.le_of_ble_eq_true rfl) (fun X ho hX hN hI => ?_)
    subst hX
    show Z X 0 [some (aR t), some (aR k), some (aI i), some (aI st), none, none, none, none, none, none] [] u 0 0
    refine z_wf (fun hw => ?_)
    have hk0 := (hk.lt hw).2.2
    have enk : ∀ c ∈ cs, ∀ e ∈ c.2.2.1, En u e ∧ ∃ s, oc u e = (p ++ pth u t) ++ c.1 :: s := fun c hcm e hce => by
      obtain ⟨h1, s, h2⟩ := (TT.mem _ _ _ _ _ (hc c hcm)).1 e hce
      exact ⟨h1, s, by rw [h2]; simp⟩
    have ene : ∀ e ∈ es0 ++ ke cs, En u e ∧ ∃ s, oc u e = p ++ (pth u t ++ s) := fun e hee => by
      rcases List.mem_append.mp hee with z | z
      · rcases he with ⟨-, rfl⟩ | ⟨h1, h2, rfl⟩
        · simp at z
        · rw [List.mem_singleton.mp z]; exact ⟨h1, [], by rw [h2]; simp⟩
      · obtain ⟨c, hcm, hce⟩ := mem_ke.mp z
        obtain ⟨h1, s, h2⟩ := enk c hcm e hce
        exact ⟨h1, c.1 :: s, by rw [h2]; simp⟩
    have t0 : ∀ e ∈ es0, En u e ∧ oc u e = p ++ pth u t ∧ es0 = [rv_ u t 2] := fun e hee => by
      rcases he with ⟨-, rfl⟩ | ⟨h1, h2, rfl⟩
      · simp at hee
      · rw [List.mem_singleton.mp hee]; exact ⟨h1, h2, rfl⟩
    have hnz : ∀ e ∈ es0 ++ ke cs, e ≠ 0 := fun e hee => (ene e hee).1.ne0 hw
    have hsz := hF.size
    rw [kx_len] at hsz
    have hsl := hF.srt.len
    rw [kx_len] at hsl
    refine z_aload_n ho dX5_below_2_0 rfl ?_
    refine z_aload_n ho dX5_below_2_1 rfl ?_
    refine z_iload_n ho dX5_below_2_2 rfl ?_
    refine kX5_30 ho hN (c_common _ _ kt ⟨kp, lp, n0, n1, hpx⟩ hk ho' hi) dX5_below_2_3 kt (by omega) (Nat.le_of_ble_eq_true rfl) (Nat.le_of_ble_eq_true rfl) (Nat.le_of_ble_eq_true rfl) (fun x3 u3 h3 => ?_)
    obtain ⟨rfl, A, B, C, hAB, hAC, rfl, hd⟩ := h3
    have hAl : (pth u t).length = A.length + B.length := by rw [hAB]; simp
    have hCl : q.length = A.length + C.length := by rw [hAC]; simp
    refine z_istore ho dX5_below_2_6 (Nat.le_of_ble_eq_true rfl) rfl ?_
    refine z_iload_n ho dX5_below_2_8 rfl ?_
    refine z_iload ho dX5_below_2_9 rfl ?_
    refine z_iadd ho dX5_below_2_11 ?_
    refine z_istore ho dX5_below_2_12 (Nat.le_of_ble_eq_true rfl) rfl ?_
    refine z_iload ho dX5_below_2_14 rfl ?_
    refine z_aload_n ho dX5_below_2_16 rfl ?_
    refine gX5_34 ho dX5_below_2_17 kt ?_
    refine z_icmp_ge (tgt := 57) ho dX5_below_2_20 (by decide) (by unfold rng; omega) (by unfold rng; omega) (fun c20 => ?_) (fun c20 => ?_)
    · -- the whole path
      have hB : B = [] := List.eq_nil_of_length_eq_zero (by omega)
      subst hB
      rw [List.append_nil] at hAB
      have hoc : oc u k = (p ++ pth u t) ++ C := by rw [ho', hAC, hAB]; simp
      have hl0 : es0.getLast?.getD 0 = rv_ u t 2 := by
        rcases he with ⟨z, rfl⟩ | ⟨-, -, rfl⟩
        · rw [z]; rfl
        · rfl
      refine z_iload ho dX5_below_2_57 rfl ?_
      refine z_aload_n ho dX5_below_2_59 rfl ?_
      refine kX5_37 ho hN (c_bytes _ _ hk) dX5_below_2_60 hk.1 (by omega) (Nat.le_of_ble_eq_true rfl) (Nat.le_of_ble_eq_true rfl) (Nat.le_of_ble_eq_true rfl) (fun x60 u60 h60 => ?_)
      obtain ⟨rfl, rfl⟩ := h60
      refine z_icmp_ne (tgt := 79) ho dX5_below_2_63 (by decide) (by unfold rng; omega) (by unfold rng; omega) (fun c63 => ?_) (fun c63 => ?_)
      · -- the key goes on
        cases C with
        | nil => simp at hCl; omega
        | cons b C =>
        have hat := hk.oc_at hoc
        rw [List.length_append] at hat
        have e1 : i + (A.length : Int) = ((p.length + (pth u t).length : Nat) : Int) := by rw [hi, hAB]; omega
        obtain ⟨c1, md, c2, hcs, g1, g2, g3⟩ := kid_cut hF.srt b
        have hmd : ∀ c ∈ md, c.1 = b := fun c hcm => by
          rcases g3 with ⟨rfl, -⟩ | ⟨d, rfl, z, -⟩
          · simp at hcm
          · rw [List.mem_singleton.mp hcm]; exact z
        have kes : ke cs = ke c1 ++ (ke md ++ ke c2) := by rw [hcs, ke_app, ke_app]
        have lo : ∀ x ∈ es0 ++ ke c1, okB u k st x := fun x hx => by
          rcases List.mem_append.mp hx with z | z
          · obtain ⟨z1, z2, -⟩ := t0 x z
            exact okB_lt (oc_pre hk z1.1 hoc z2)
          · obtain ⟨c, hcm, hce⟩ := mem_ke.mp z
            obtain ⟨z1, s, z2⟩ := enk c (by rw [hcs]; simp [hcm]) x hce
            exact okB_lt ((oc_gt z1.1 hk z2 hoc).1 (g1 c hcm))
        have hi2 : ∀ x ∈ ke c2, ¬ okB u k st x := fun x hx => by
          obtain ⟨c, hcm, hce⟩ := mem_ke.mp hx
          obtain ⟨z1, s, z2⟩ := enk c (by rw [hcs]; simp [hcm]) x hce
          exact okB_gt hk0 ((oc_gt z1.1 hk z2 hoc).2 (g2 c hcm))
        have fin : ∀ e : Nat, Blw u (ke md) k st e → ∀ tm : Option AV, Z X 120 [some (aR t), some (aR k), some (aI i), some (aI st), some (aI (A.length : Int)), some (aI (i + (A.length : Int))), some (aI b), tm, some (aR e), none] [] u 0 0 := by
          intro e hab tm
          obtain ⟨t1, t2⟩ := hab.thn (C := es0 ++ ke c1) lo (fun x hx => hnz x (by rw [kes]; simp [hx]))
          have nxt : ∀ r : Int, ((c1 = [] ∧ r = -1) ∨ ∃ c c1', c1 = c1' ++ [c] ∧ r = c.1 ∧ lk r (kx cs) = c.2.1) → Z X 140 [some (aR t), some (aR k), some (aI i), some (aI st), some (aI (A.length : Int)), some (aI (i + (A.length : Int))), some (aI b), tm, some (aR e), none] [aI r] u 0 0 := by
            intro r hr
            refine z_istore ho dX5_below_2_140 (Nat.le_of_ble_eq_true rfl) rfl ?_
            refine z_aload ho dX5_below_2_142 rfl ?_
            refine z_ifnull (tgt := 152) ho dX5_below_2_144 (by decide) (fun c144 => ?_) (fun c144 => ?_)
            · have hrr : rng r := by
                rcases hr with ⟨-, z⟩ | ⟨c, c2', z, z2, -⟩
                · unfold rng; omega
                · have := hF.srt.2 (c.1, c.2.1) (mem_kx.mpr ⟨c, by rw [hcs, z]; simp, rfl⟩)
                  simp only at this
                  unfold rng; omega
              refine z_iload ho dX5_below_2_152 rfl ?_
              refine z_iconst ho dX5_below_2_154 ?_
              refine z_icmp_ne (tgt := 165) ho dX5_below_2_155 (by decide) hrr (by unfold rng; omega) (fun c155 => ?_) (fun c155 => ?_)
              · obtain ⟨c, c1', z, z2, z3⟩ := hr.resolve_left (fun z => c155 z.2)
                have hcm : c ∈ cs := by rw [hcs, z]; simp
                have hcr := hF.srt.2 (c.1, c.2.1) (mem_kx.mpr ⟨c, hcm, rfl⟩)
                simp only at hcr
                have hcc := hc c hcm
                have hcn := (TT.mem _ _ _ _ _ hcc).2.2.1
                obtain ⟨m, -, hcc'⟩ := hcc.node
                refine z_aload_n ho dX5_below_2_165 rfl ?_
                refine gX5_47 ho dX5_below_2_166 kt ?_
                refine z_iload ho dX5_below_2_169 rfl ?_
                refine or_call (hF.k2) (fun hq cc => kX5_51_8 ho hN (c_G8_get _ _ hF (by omega) (by omega) hq) dX5_below_2_171 hq (by omega) (Nat.le_of_ble_eq_true rfl) (Nat.le_of_ble_eq_true rfl) (Nat.le_of_ble_eq_true rfl) cc) (fun hq cc => kX5_51_16 ho hN (c_G16_get _ _ hF (by omega) (by omega) hq) dX5_below_2_171 hq (by omega) (Nat.le_of_ble_eq_true rfl) (Nat.le_of_ble_eq_true rfl) (Nat.le_of_ble_eq_true rfl) cc) (fun x171 u171 h171 => ?_)
                obtain ⟨rfl, rfl⟩ := h171
                rw [z3]
                refine kX5_105 ho hN (c_T_last _ _ hcc' hcn) dX5_below_2_174 hcc.kd (by omega) (Nat.le_of_ble_eq_true rfl) (Nat.le_of_ble_eq_true rfl) (Nat.le_of_ble_eq_true rfl) (fun x174 u174 h174 => ?_)
                obtain ⟨rfl, hh⟩ := h174
                refine r_R ho dX5_below_2_177 (Nat.le_of_ble_eq_true rfl) (Nat.le_of_ble_eq_true rfl) ?_
                refine ⟨rfl, ?_⟩
                have := (t2 c144).skip hi2
                have e9 : (es0 ++ ke c1).getLast?.getD 0 = x174 := by
                  rw [z, ke_app, show ke [c] = c.2.2.1 by simp [ke]]
                  simp only [List.getLast?_append, hh]
                  rfl
                rw [e9] at this
                rw [kes]
                simp only [List.append_assoc] at this ⊢
                exact this
              · have hc2 : c1 = [] := by
                  rcases hr with ⟨z, -⟩ | ⟨c, c2', z, z2, -⟩
                  · exact z
                  · have := hF.srt.2 (c.1, c.2.1) (mem_kx.mpr ⟨c, by rw [hcs, z]; simp, rfl⟩)
                    simp only at this
                    omega
                refine z_aload_n ho dX5_below_2_158 rfl ?_
                refine gX5_61 ho dX5_below_2_159 kt ?_
                refine z_goto (tgt := 177) ho dX5_below_2_162 (by decide) ?_
                refine r_R ho dX5_below_2_177 (Nat.le_of_ble_eq_true rfl) (Nat.le_of_ble_eq_true rfl) ?_
                refine ⟨rfl, ?_⟩
                have := (t2 c144).skip hi2
                have e9 : (es0 ++ ke c1).getLast?.getD 0 = rv_ u t 2 := by
                  rw [hc2, show ke [] = [] from rfl, List.append_nil, hl0]
                rw [e9] at this
                rw [kes]
                simp only [List.append_assoc] at this ⊢
                exact this
            · 
              refine z_aload ho dX5_below_2_147 rfl ?_
              refine z_goto (tgt := 177) ho dX5_below_2_149 (by decide) ?_
              refine r_R ho dX5_below_2_177 (Nat.le_of_ble_eq_true rfl) (Nat.le_of_ble_eq_true rfl) ?_
              refine ⟨rfl, ?_⟩
              have := (t1 c144).skip hi2
              rw [kes]
              simp only [List.append_assoc] at this ⊢
              exact this
          refine z_iload ho dX5_below_2_120 rfl ?_
          refine z_if_ne (tgt := 129) ho dX5_below_2_122 (by decide) (by unfold rng; omega) (fun c122 => ?_) (fun c122 => ?_)
          · 
            refine z_aload_n ho dX5_below_2_129 rfl ?_
            refine gX5_47 ho dX5_below_2_130 kt ?_
            refine z_iload ho dX5_below_2_133 rfl ?_
            refine z_iconst ho dX5_below_2_135 ?_
            refine z_isub ho dX5_below_2_136 ?_
            refine or_call (hF.k2) (fun hq cc => kX5_111_8 ho hN (c_G8_upTo _ _ hF (by omega) (by omega) hq) dX5_below_2_137 hq (by omega) (Nat.le_of_ble_eq_true rfl) (Nat.le_of_ble_eq_true rfl) (Nat.le_of_ble_eq_true rfl) cc) (fun hq cc => kX5_111_16 ho hN (c_G16_upTo _ _ hF (by omega) (by omega) hq) dX5_below_2_137 hq (by omega) (Nat.le_of_ble_eq_true rfl) (Nat.le_of_ble_eq_true rfl) (Nat.le_of_ble_eq_true rfl) cc) (fun x137 u137 h137 => ?_)
            obtain ⟨rfl, hfr⟩ := h137
            exact nxt _ (kid_before hF.srt hcs g1 g2 hmd hfr)
          · 
            refine z_iconst ho dX5_below_2_125 ?_
            refine z_goto (tgt := 140) ho dX5_below_2_126 (by decide) ?_
            refine nxt _ (Or.inl ⟨List.eq_nil_iff_forall_not_mem.mpr (fun c hcm => ?_), rfl⟩)
            have := g1 c hcm
            have := hF.srt.2 (c.1, c.2.1) (mem_kx.mpr ⟨c, by rw [hcs]; simp [hcm], rfl⟩)
            simp only at this
            omega
        refine z_aload_n ho dX5_below_2_79 rfl ?_
        refine z_iload ho dX5_below_2_80 rfl ?_
        refine kX5_43 ho hN (c_octet _ _ hk (by omega) (by rw [e1]; exact hat.2.1)) dX5_below_2_82 hk.1 (by omega) (Nat.le_of_ble_eq_true rfl) (Nat.le_of_ble_eq_true rfl) (Nat.le_of_ble_eq_true rfl) (fun x82 u82 h82 => ?_)
        obtain ⟨rfl, rfl⟩ := h82
        rw [e1, hat.1, ← e1]
        refine z_istore ho dX5_below_2_85 (Nat.le_of_ble_eq_true rfl) rfl ?_
        refine z_aload_n ho dX5_below_2_87 rfl ?_
        refine gX5_47 ho dX5_below_2_88 kt ?_
        refine z_iload ho dX5_below_2_91 rfl ?_
        refine or_call (hF.k2) (fun hq cc => kX5_51_8 ho hN (c_G8_get _ _ hF (by omega) (by omega) hq) dX5_below_2_93 hq (by omega) (Nat.le_of_ble_eq_true rfl) (Nat.le_of_ble_eq_true rfl) (Nat.le_of_ble_eq_true rfl) cc) (fun hq cc => kX5_51_16 ho hN (c_G16_get _ _ hF (by omega) (by omega) hq) dX5_below_2_93 hq (by omega) (Nat.le_of_ble_eq_true rfl) (Nat.le_of_ble_eq_true rfl) (Nat.le_of_ble_eq_true rfl) cc) (fun x93 u93 h93 => ?_)
        obtain ⟨rfl, rfl⟩ := h93
        refine z_astore ho dX5_below_2_96 (Nat.le_of_ble_eq_true rfl) rfl ?_
        refine z_aload ho dX5_below_2_98 rfl ?_
        refine z_ifnonnull (tgt := 107) ho dX5_below_2_100 (by decide) (fun c100 => ?_) (fun c100 => ?_)
        · rcases g3 with ⟨-, z⟩ | ⟨c, hc1, hc2, hlk⟩
          · exact absurd z c100
          have hcm : c ∈ cs := by rw [hcs, hc1]; simp
          have hcc := hc c hcm
          rw [hlk]
          refine z_aload ho dX5_below_2_107 rfl ?_
          refine z_aload_n ho dX5_below_2_109 rfl ?_
          refine z_iload ho dX5_below_2_110 rfl ?_
          refine z_iconst ho dX5_below_2_112 ?_
          refine z_iadd ho dX5_below_2_113 ?_
          refine z_iload_n ho dX5_below_2_114 rfl ?_
          refine kX5_108 ho hN (hrec _ _ C _ _ _ hcc (by rw [hoc, hc2]; simp) (by rw [e1]; simp; omega)) dX5_below_2_115 (by omega) (Nat.le_of_ble_eq_true rfl) (Nat.le_of_ble_eq_true rfl) (Nat.le_of_ble_eq_true rfl) (fun x115 u115 h115 => ?_)
          obtain ⟨rfl, hab⟩ := h115
          refine z_astore ho dX5_below_2_118 (Nat.le_of_ble_eq_true rfl) rfl ?_
          refine fin _ ?_ _
          rw [hc1]
          simpa [ke] using hab
        · 
          refine z_null ho dX5_below_2_103 ?_
          refine z_goto (tgt := 118) ho dX5_below_2_104 (by decide) ?_
          refine z_astore ho dX5_below_2_118 (Nat.le_of_ble_eq_true rfl) rfl ?_
          rcases g3 with ⟨z, -⟩ | ⟨c, hc1, hc2, hlk⟩
          · refine fin 0 ?_ _
            rw [z]
            exact Blw.no (fun x hx => by simp [ke] at hx)
          · have := hF.srt.2 (c.1, c.2.1) (mem_kx.mpr ⟨c, by rw [hcs, hc1]; simp, rfl⟩)
            rw [hlk] at c100
            exact absurd c100 this.2.2
      · -- the key ends here
        have hC : C = [] := List.eq_nil_of_length_eq_zero (by omega)
        subst hC
        rw [List.append_nil] at hoc
        have hik : ∀ x ∈ ke cs, ¬ okB u k st x := fun x hx => by
          obtain ⟨c, hcm, hce⟩ := mem_ke.mp hx
          obtain ⟨z1, s, z2⟩ := enk c hcm x hce
          exact okB_gt hk0 (oc_pre z1.1 hk z2 hoc)
        refine z_iload_n ho dX5_below_2_66 rfl ?_
        refine z_if_eq (tgt := 74) ho dX5_below_2_67 (by decide) (by unfold rng; omega) (fun c67 => ?_) (fun c67 => ?_)
        · obtain rfl : st = 0 := by omega
          refine z_aload_n ho dX5_below_2_74 rfl ?_
          refine gX5_61 ho dX5_below_2_75 kt ?_
          refine r_R ho dX5_below_2_78 (Nat.le_of_ble_eq_true rfl) (Nat.le_of_ble_eq_true rfl) ?_
          refine ⟨rfl, ?_⟩
          have := (Blw.all (u := u) (k := k) (st := 0) (es := es0) (fun x hx => Or.inr (Or.inr ⟨rfl, oc_inj.mp ((t0 x hx).2.1.trans hoc.symm)⟩))).skip hik
          rw [hl0] at this
          exact this
        · obtain rfl : st = 1 := by omega
          refine z_null ho dX5_below_2_70 ?_
          refine z_goto (tgt := 78) ho dX5_below_2_71 (by decide) ?_
          refine r_R ho dX5_below_2_78 (Nat.le_of_ble_eq_true rfl) (Nat.le_of_ble_eq_true rfl) ?_
          refine ⟨rfl, Blw.no (fun x hx => ?_)⟩
          rcases List.mem_append.mp hx with z | z
          · exact okB_1 hk0 (oc_inj.mp ((t0 x z).2.1.trans hoc.symm))
          · exact hik x z
    · -- a part of the path
      cases B with
      | nil => simp at hAl; omega
      | cons b B =>
      have hbr := hpx b (by rw [hAB]; simp)
      have hg := pth_get hAB
      have enb : ∀ e ∈ es0 ++ ke cs, En u e ∧ ∃ s, oc u e = (p ++ A) ++ b :: s := fun e hee => by
        obtain ⟨h1, s, h2⟩ := ene e hee
        exact ⟨h1, B ++ s, by rw [h2, hAB]; simp⟩
      have no : (∀ x ∈ es0 ++ ke cs, ¬ okB u k st x) → Z X 48 [some (aR t), some (aR k), some (aI i), some (aI st), some (aI (A.length : Int)), some (aI (i + (A.length : Int))), none, none, none, none] [] u 0 0 := by
        intro hall
        refine z_null ho dX5_below_2_48 ?_
        refine z_goto (tgt := 56) ho dX5_below_2_49 (by decide) ?_
        refine r_R ho dX5_below_2_56 (Nat.le_of_ble_eq_true rfl) (Nat.le_of_ble_eq_true rfl) ?_
        exact ⟨rfl, Blw.no hall⟩
      refine z_iload ho dX5_below_2_23 rfl ?_
      refine z_aload_n ho dX5_below_2_25 rfl ?_
      refine kX5_37 ho hN (c_bytes _ _ hk) dX5_below_2_26 hk.1 (by omega) (Nat.le_of_ble_eq_true rfl) (Nat.le_of_ble_eq_true rfl) (Nat.le_of_ble_eq_true rfl) (fun x26 u26 h26 => ?_)
      obtain ⟨rfl, rfl⟩ := h26
      refine z_icmp_eq (tgt := 48) ho dX5_below_2_29 (by decide) (by unfold rng; omega) (by unfold rng; omega) (fun c29 => ?_) (fun c29 => ?_)
      · have hC : C = [] := List.eq_nil_of_length_eq_zero (by omega)
        subst hC
        refine no (fun x hx => ?_)
        obtain ⟨z1, s, z2⟩ := enb x hx
        exact okB_gt hk0 (oc_pre z1.1 hk z2 (by rw [ho', hAC]; simp))
      · cases C with
        | nil => simp at hCl; omega
        | cons c C =>
        have hoc : oc u k = (p ++ A) ++ c :: C := by rw [ho', hAC]; simp
        have hat := hk.oc_at hoc
        rw [List.length_append] at hat
        have e1 : i + (A.length : Int) = ((p.length + A.length : Nat) : Int) := by rw [hi]; omega
        have hbc : b ≠ c := by
          rcases hd with z | z | ⟨b', B', c', C', z1, z2, z3⟩
          · simp at z
          · simp at z
          · cases z1; cases z2; exact z3
        refine z_aload_n ho dX5_below_2_32 rfl ?_
        refine z_iload ho dX5_below_2_33 rfl ?_
        refine kX5_43 ho hN (c_octet _ _ hk (by omega) (by rw [e1]; exact hat.2.1)) dX5_below_2_35 hk.1 (by omega) (Nat.le_of_ble_eq_true rfl) (Nat.le_of_ble_eq_true rfl) (Nat.le_of_ble_eq_true rfl) (fun x35 u35 h35 => ?_)
        obtain ⟨rfl, rfl⟩ := h35
        rw [e1, hat.1, ← e1]
        refine z_aload_n ho dX5_below_2_38 rfl ?_
        refine gX5_91 ho dX5_below_2_39 kt ?_
        refine z_iload ho dX5_below_2_42 rfl ?_
        refine z_iald ho dX5_below_2_44 kp (by omega) (by omega) ?_
        rw [hg]
        refine z_icmp_ge (tgt := 52) ho dX5_below_2_45 (by decide) (by unfold rng; omega) (by unfold rng; omega) (fun c45 => ?_) (fun c45 => ?_)
        · 
          refine z_aload_n ho dX5_below_2_52 rfl ?_
          refine kX5_105 ho hN (c_T_last _ _ h' hne) dX5_below_2_53 kt (by omega) (Nat.le_of_ble_eq_true rfl) (Nat.le_of_ble_eq_true rfl) (Nat.le_of_ble_eq_true rfl) (fun x53 u53 h53 => ?_)
          obtain ⟨rfl, hh⟩ := h53
          refine r_R ho dX5_below_2_56 (Nat.le_of_ble_eq_true rfl) (Nat.le_of_ble_eq_true rfl) ?_
          refine ⟨rfl, ?_⟩
          have := Blw.all (u := u) (k := k) (st := st) (es := es0 ++ ke cs) (fun x hx => by
            obtain ⟨z1, s, z2⟩ := enb x hx
            exact okB_lt ((oc_gt z1.1 hk z2 hoc).1 (by omega)))
          rw [hh] at this
          exact this
        · refine no (fun x hx => ?_)
          obtain ⟨z1, s, z2⟩ := enb x hx
          exact okB_gt hk0 ((oc_gt z1.1 hk z2 hoc).2 (by omega))
  intro n
  induction n with
  | zero => exact body 0 (fun t p q es fp i h => h.elim)
  | succ n ih => exact body (n + 1) (fun t p q es fp i h ho' hi => ih t false p q es fp i h ((TR.mem (n := n) (rt := false) h).2.2.1 rfl) ho' hi)
