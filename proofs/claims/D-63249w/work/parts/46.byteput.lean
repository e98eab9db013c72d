set_option maxRecDepth 100000
/-! ===== ByteTree.put ===== -/
theorem c_YT_put (l : Launch) (u : Mem) {G : Nat → Prop} {t e : Nat} {S : List Nat} (hT : YT G u t S) (hGl : ∀ a, G a → a < sz_ u) (hSl : S.length < 40) (he : En u e) (hnew : ∀ x ∈ S, tx u x ≠ tx u e) :
    Mt_ l yX5_put cX5_put 7 none 5 16 452 [aR t, aR e] u (qV fun u' => (∀ S', (∀ x, x ∈ S' ↔ x ∈ S ∨ x = e) → YT G u' t S') ∧ Fr (Q5 G t) u u' ∧ ∀ i, iv_ u' t i = iv_ u t i) := by
  obtain ⟨w3, w4, n, ES, FP, hY, hTN, hp0, h3, h4, hS, hG⟩ := hT
  refine Mt_of (by decide) (Nat.le_of_ble_eq_true rfl) (fun X ho hX hN hI => ?_)
  subst hX
  show Z X 0 [some (aR t), some (aR e), none, none, none, none, none] [] u 0 0
  refine z_wf (fun hw => ?_)
  have hk5 := (TR.mem hTN).2.1
  have hEn := (TR.mem hTN).1
  have y1 := hY.1
  have ht5 : t ∉ FP := fun z => by have := hk5 t z; unfold K5 at this; omega
  have hso := TR.sorted hTN
  have hESl : ES.length < 40 := by
    have := nd_sub ES S (sorted_nd hso) (fun x hx => (hS x).mpr hx)
    omega
  have hnew' : ∀ x ∈ ES, tx u x ≠ tx u e := fun x hx => hnew x ((hS x).mpr hx)
  have hFl : ∀ a ∈ FP, a < sz_ u := fun a ha => (hw.1 a (by have := hk5 a ha; unfold K5 at this; omega)).1
  have htl := hw.1 t (by omega)
  have hol := he.1.oc_len
  generalize hR : rv_ u t 2 = root at *
  have enk : ∀ (w : Mem) (fp : List Nat), (∀ a ∈ fp, a ∈ FP) → (∀ a, a < sz_ u → a ∉ fp → Sm u w a) → ∀ x, En u x → En w x ∧ tx w x = tx u x := fun w fp hf hs x hx => by
    have hl := hx.1.lt hw
    have s1 := hs x hl.1 (fun z => by have := hk5 x (hf x z); rw [hx.2] at this; unfold K5 at this; omega)
    have := hx.1.same s1 (hs (x + 1) hl.2.1 (fun z => by have := hk5 _ (hf _ z); rw [hx.1.2.2.1] at this; unfold K5 at this; omega))
    exact ⟨⟨this.1, by rw [s1.1]; exact hx.2⟩, this.2⟩
  have fin : ∀ (w : Mem) (cur : Nat) (rt : Bool) (p : List Int) (es fp : List Nat) (n' : Nat) (es' fp' : List Nat), Hy u root FP ES rt p cur es fp → (∀ a, a < sz_ u → a ∉ fp → Sm u w a) → (∀ a, a < sz_ u → kd_ w a = kd_ u a ∧ ln_ w a = ln_ u a) → sz_ u ≤ sz_ w → TN w (TT w n') rt p cur es' fp' → (∀ a ∈ fp', a ∈ fp ∨ sz_ u ≤ a) → (rt = true → pth w cur = []) → (∀ x, x ∈ es' ↔ x ∈ es ∨ x = e) →
      (∀ S', (∀ x, x ∈ S' ↔ x ∈ S ∨ x = e) → YT G w t S') ∧ Fr (Q5 G t) u w ∧ ∀ i, iv_ w t i = iv_ u t i := by
    intro w cur rt p es fp n' es' fp' hH hs hkl hz hTw hfp hpw hm
    obtain ⟨h1, hrt, hpr, A, B, hES, h2⟩ := hH
    have hen := enk w fp h1 hs
    obtain ⟨n'', fp'', g1, g0, g2⟩ := h2 w n' es' fp' (fun a ha hna => hs a (hFl a ha) hna) (fun x hx => hen x (hEn x (by rw [hES]; simp only [List.mem_append] at hx ⊢; rcases hx with q | q; (· exact Or.inl q); exact Or.inr (Or.inr q))).1) hTw hfp hpw
    obtain ⟨y1, y2, y3, y4, y5, y6, y7⟩ := hY
    have l3 := hw.1 w3 (by omega)
    have l4 := hw.1 w4 (by omega)
    have st := hs t htl.1 (fun z => ht5 (h1 _ z))
    have s3 := hs w3 l3.1 (fun z => h3 (h1 _ z))
    have s4 := hs w4 l4.1 (fun z => h4 (h1 _ z))
    have er : rv_ w t 2 = root := by rw [st.2.2.2]; exact hR
    refine ⟨fun S' hS' => ⟨w3, w4, n'', A ++ (es' ++ B), fp'', ⟨by rw [st.1]; exact y1, by rw [st.2.2.2]; exact y2, by rw [st.2.2.2]; exact y3, by rw [s3.1]; exact y4, by rw [s3.2.1]; exact y5, by rw [s4.1]; exact y6, by rw [s4.2.1]; exact y7⟩, by rw [er]; exact g1, by rw [er]; exact g0, fun z => ?_, fun z => ?_, fun x => ?_, fun a ha => ?_⟩, ⟨hz, fun a ha => ⟨(hkl a ha).1, (hkl a ha).2, fun q => hs a ha (fun z => q (Or.inl ⟨hk5 a (h1 a z), hG a (Or.inl (h1 a z))⟩))⟩⟩, st.2.2.1⟩
    · rcases g2 _ z with q | q
      · exact h3 q
      · omega
    · rcases g2 _ z with q | q
      · exact h4 q
      · omega
    · rw [hS' x, hS x, hES]
      simp only [List.mem_append, hm x]
      constructor
      · rintro ((q | q | q) | q)
        · exact Or.inl q
        · exact Or.inr (Or.inl (Or.inl q))
        · exact Or.inr (Or.inr q)
        · exact Or.inr (Or.inl (Or.inr q))
      · rintro (q | (q | q) | q)
        · exact Or.inl (Or.inl q)
        · exact Or.inl (Or.inr (Or.inl q))
        · exact Or.inr q
        · exact Or.inl (Or.inr (Or.inr q))
    · rcases ha with q | q | q
      · rcases g2 a q with z | z
        · exact hG a (Or.inl z)
        · exact fun y => by have := hGl a y; omega
      · exact hG a (Or.inr (Or.inl q))
      · exact hG a (Or.inr (Or.inr q))
  have tail : ∀ (w : Mem) (cur : Nat) (i m : Int) (tm : Option AV), ((∀ S', (∀ x, x ∈ S' ↔ x ∈ S ∨ x = e) → YT G w t S') ∧ Fr (Q5 G t) u w ∧ ∀ i, iv_ w t i = iv_ u t i) → Z X 125 [some (aR t), some (aR e), some (aR cur), some (aI i), some (aI 1), some (aI m), tm] [] w 16 452 := by
    intro w cur i m tm hpost
    refine z_iload ho dX5_put_125 rfl ?_
    refine z_if_ne (tgt := 133) ho dX5_put_127 (by decide) (by unfold rng; omega) (fun c127 => ?_) (fun c127 => ?_)
    · 
      refine z_iinc ho dX5_put_133 rfl rfl ?_
      refine z_goto (tgt := 10) ho dX5_put_136 (by decide) ?_
      refine z_iload ho dX5_put_10 rfl ?_
      refine z_if_ne (tgt := 139) ho dX5_put_12 (by decide) (by unfold rng; omega) (fun c12 => ?_) (fun c12 => ?_)
      · 
        refine r_V ho dX5_put_139 (Nat.le_of_ble_eq_true rfl) (Nat.le_of_ble_eq_true rfl) ?_
        exact hpost
      · exact absurd c12 (by decide)
    · exact absurd c127 (by decide)
  have last : ∀ (u1 : Mem) (cur n1 : Nat) (rt : Bool) (p A C : List Int) (es1 es fp : List Nat) (cs1 : List Kid) (tm : Option AV), Hy u root FP ES rt p cur es fp → TD u1 n1 true p cur es1 cs1 → es1 ++ ke cs1 = es → pth u1 cur = A → oc u e = p ++ (A ++ C) → kd_ u cur = 6 → ln_ u1 cur = ln_ u cur → (∀ a, a < sz_ u → a ≠ cur → Sm u u1 a) → sz_ u ≤ sz_ u1 → (∀ a ∈ fpT u1 cur cs1, a ∈ fp ∨ sz_ u ≤ a) → (rt = true ∨ es ≠ []) → (rt = true → A = []) → (∀ b C', C = b :: C' → lk b (kx cs1) = 0) → cur ∈ fp →
      Z X 38 [some (aR t), some (aR e), some (aR cur), some (aI (p.length : Int)), some (aI 0), some (aI (A.length : Int)), tm] [] u1 8 90 := by
    intro u1 cur n1 rt p A C es1 es fp cs1 tm hH hD1 hes hpA hoe kcu hlc hs1 hz1 hfp1 hne1 hrA hlk hcf
    refine z_wf (fun hw1 => ?_)
    have hlt1 := hD1.lt hw1
    have hsf : ∀ a, a < sz_ u → a ∉ fp → Sm u u1 a := fun a h1 h2 => hs1 a h1 (fun z => h2 (z ▸ hcf))
    have hen1 := enk u1 fp hH.1 hsf
    obtain ⟨en1, etx1⟩ := hen1 e he
    have kc := hD1.1
    have hF1 := hD1.2.2.1
    have hene : ∀ x ∈ es, En u x ∧ x ∈ ES := fun x hx => by
      obtain ⟨-, -, -, A', B', hES, -⟩ := hH
      have : x ∈ ES := by rw [hES]; simp [hx]
      exact ⟨(hEn x this).1, this⟩
    have hoe1 : oc u1 e = p ++ (A ++ C) := by unfold oc; rw [etx1]; exact hoe
    have hlen : (p.length : Int) + (A.length + C.length) = 2 * ((tx u1 e).length : Int) := by rw [etx1, ← hol.1, hoe]; simp
    have hl16 := hol.2
    rw [hoe, List.length_append, List.length_append] at hl16
    have kd1 : ∀ a, a < sz_ u → kd_ u1 a = kd_ u a ∧ ln_ u1 a = ln_ u a := fun a ha => by
      by_cases z : a = cur
      · subst z; exact ⟨by rw [kc, kcu], hlc⟩
      · exact ⟨(hs1 a ha z).1, (hs1 a ha z).2.1⟩
    refine z_iload_n ho dX5_put_38 rfl ?_
    refine z_iload ho dX5_put_39 rfl ?_
    refine z_iadd ho dX5_put_41 ?_
    refine z_istore_n ho dX5_put_42 (Nat.le_of_ble_eq_true rfl) rfl ?_
    refine z_iload_n ho dX5_put_43 rfl ?_
    refine z_aload_n ho dX5_put_44 rfl ?_
    refine kX5_69 ho hN (c_bytes _ _ en1.1) dX5_put_45 en1.2 (by omega) (Nat.le_of_ble_eq_true rfl) (Nat.le_of_ble_eq_true rfl) (Nat.le_of_ble_eq_true rfl) (fun x45 u45 h45 => ?_)
    obtain ⟨rfl, rfl⟩ := h45
    refine z_icmp_ge (tgt := 66) ho dX5_put_48 (by decide) (by unfold rng; omega) (by unfold rng; omega) (fun c48 => ?_) (fun c48 => ?_)
    · -- the key ends here
      have hC : C = [] := List.eq_nil_of_length_eq_zero (by omega)
      subst hC
      rw [List.append_nil] at hoe1
      refine z_null ho dX5_put_66 ?_
      refine z_astore ho dX5_put_67 (Nat.le_of_ble_eq_true rfl) rfl ?_
      refine z_aload ho dX5_put_69 rfl ?_
      refine z_ifnonnull (tgt := 78) ho dX5_put_71 (by decide) (fun c71 => ?_) (fun c71 => ?_)
      · exact absurd rfl c71
      · 
        refine z_iconst ho dX5_put_74 ?_
        refine z_goto (tgt := 79) ho dX5_put_75 (by decide) ?_
        refine z_istore ho dX5_put_79 (Nat.le_of_ble_eq_true rfl) rfl ?_
        refine z_iload_n ho dX5_put_81 rfl ?_
        refine z_aload_n ho dX5_put_82 rfl ?_
        refine kX5_69 ho hN (c_bytes _ _ en1.1) dX5_put_83 en1.2 (by omega) (Nat.le_of_ble_eq_true rfl) (Nat.le_of_ble_eq_true rfl) (Nat.le_of_ble_eq_true rfl) (fun x83 u83 h83 => ?_)
        obtain ⟨rfl, rfl⟩ := h83
        refine z_icmp_ne (tgt := 97) ho dX5_put_86 (by decide) (by unfold rng; omega) (by unfold rng; omega) (fun c86 => ?_) (fun c86 => ?_)
        · simp at hlen; omega
        · 
          refine z_aload_n ho dX5_put_89 rfl ?_
          refine z_aload_n ho dX5_put_90 rfl ?_
          refine pX5_61 ho dX5_put_91 kc  ?_
          refine z_goto (tgt := 125) ho dX5_put_94 (by decide) ?_
          have e0 : es1 = [] := by
            rcases hD1.2.2.2.1 with ⟨-, z⟩ | ⟨z1, z2, z3⟩
            · exact z
            · exfalso
              have hx := hene (rv_ u1 cur 2) (by rw [← hes, z3]; simp)
              refine hnew' _ hx.2 (oc_inj.mp ?_)
              unfold oc
              rw [← (hen1 _ hx.1).2, ← etx1]
              exact (z2.trans (by rw [hpA])).trans hoe1.symm
          obtain ⟨d1, d2, d3⟩ := hD1.entry (e := e) (rt' := rt) (es1 := [e]) hw1 (Or.inr ⟨en1, by rw [hpA]; exact hoe1, rfl⟩) (Or.inr (Or.inl (en1.ne0 hw1)))
          refine z_cu (cu' := 16) (su' := 452) (Nat.le_of_ble_eq_true rfl) (Nat.le_of_ble_eq_true rfl) ?_
          refine tail _ _ _ _ _ (fin _ cur rt p es fp _ _ _ hH (fun a h1 h2 => (hsf a h1 h2).tr (Sm.wR (fun z => h2 (z ▸ hcf)))) kd1 hz1 d1.tn (fun a ha => hfp1 a (by rw [← d2]; exact ha)) (fun z => by rw [d3, hpA]; exact hrA z) (fun x => ?_))
          rw [← hes, e0]
          simp [or_comm]
    · -- it goes on
      cases C with
      | nil => simp at hlen; omega
      | cons b C =>
      have hat := en1.1.oc_at (p := p ++ A) (c := b) (q := C) (by rw [hoe1]; simp)
      rw [List.length_append] at hat
      have e1 : (p.length : Int) + (A.length : Int) = ((p.length + A.length : Nat) : Int) := by omega
      have hl0 := hlk b C rfl
      have hFs := hF1.srt
      refine z_aload_n ho dX5_put_51 rfl ?_
      refine gX5_47 ho dX5_put_52 kc ?_
      refine z_aload_n ho dX5_put_55 rfl ?_
      refine z_iload_n ho dX5_put_56 rfl ?_
      refine kX5_72 ho hN (c_octet _ _ en1.1 (by omega) (by rw [e1]; exact hat.2.1)) dX5_put_57 en1.2 (by omega) (Nat.le_of_ble_eq_true rfl) (Nat.le_of_ble_eq_true rfl) (Nat.le_of_ble_eq_true rfl) (fun x57 u57 h57 => ?_)
      obtain ⟨rfl, rfl⟩ := h57
      rw [e1, hat.1, ← e1]
      refine or_call (hF1.k2) (fun hq cc => kX5_51_8 ho hN (c_G8_get _ _ hF1 (by omega) (by omega) hq) dX5_put_60 hq (by omega) (Nat.le_of_ble_eq_true rfl) (Nat.le_of_ble_eq_true rfl) (Nat.le_of_ble_eq_true rfl) cc) (fun hq cc => kX5_51_16 ho hN (c_G16_get _ _ hF1 (by omega) (by omega) hq) dX5_put_60 hq (by omega) (Nat.le_of_ble_eq_true rfl) (Nat.le_of_ble_eq_true rfl) (Nat.le_of_ble_eq_true rfl) cc) (fun x60 u60 h60 => ?_)
      obtain ⟨rfl, rfl⟩ := h60
      rw [hl0]
      refine z_goto (tgt := 67) ho dX5_put_63 (by decide) ?_
      refine z_astore ho dX5_put_67 (Nat.le_of_ble_eq_true rfl) rfl ?_
      refine z_aload ho dX5_put_69 rfl ?_
      refine z_ifnonnull (tgt := 78) ho dX5_put_71 (by decide) (fun c71 => ?_) (fun c71 => ?_)
      · exact absurd rfl c71
      · 
        refine z_iconst ho dX5_put_74 ?_
        refine z_goto (tgt := 79) ho dX5_put_75 (by decide) ?_
        refine z_istore ho dX5_put_79 (Nat.le_of_ble_eq_true rfl) rfl ?_
        refine z_iload_n ho dX5_put_81 rfl ?_
        refine z_aload_n ho dX5_put_82 rfl ?_
        refine kX5_69 ho hN (c_bytes _ _ en1.1) dX5_put_83 en1.2 (by omega) (Nat.le_of_ble_eq_true rfl) (Nat.le_of_ble_eq_true rfl) (Nat.le_of_ble_eq_true rfl) (fun x83 u83 h83 => ?_)
        obtain ⟨rfl, rfl⟩ := h83
        refine z_icmp_ne (tgt := 97) ho dX5_put_86 (by decide) (by unfold rng; omega) (by unfold rng; omega) (fun c86 => ?_) (fun c86 => ?_)
        · 
          refine z_aload ho dX5_put_97 rfl ?_
          refine z_ifnonnull (tgt := 125) ho dX5_put_99 (by decide) (fun c99 => ?_) (fun c99 => ?_)
          · exact absurd rfl c99
          · 
            refine z_aload_n ho dX5_put_102 rfl ?_
            refine z_aload_n ho dX5_put_103 rfl ?_
            refine gX5_47 ho dX5_put_104 kc ?_
            refine z_aload_n ho dX5_put_107 rfl ?_
            refine z_iload_n ho dX5_put_108 rfl ?_
            refine kX5_72 ho hN (c_octet _ _ en1.1 (by omega) (by rw [e1]; exact hat.2.1)) dX5_put_109 en1.2 (by omega) (Nat.le_of_ble_eq_true rfl) (Nat.le_of_ble_eq_true rfl) (Nat.le_of_ble_eq_true rfl) (fun x109 u109 h109 => ?_)
            obtain ⟨rfl, rfl⟩ := h109
            rw [e1, hat.1, ← e1]
            refine z_aload_n ho dX5_put_112 rfl ?_
            refine z_iload_n ho dX5_put_113 rfl ?_
            refine z_iconst ho dX5_put_114 ?_
            refine z_iadd ho dX5_put_115 ?_
            refine kX5_73 ho hN (c_leaf _ _ (p := p ++ A ++ [b]) (q := C) en1 (by rw [hoe1]; simp) (by simp; omega)) dX5_put_116 (by omega) (Nat.le_of_ble_eq_true rfl) (Nat.le_of_ble_eq_true rfl) (Nat.le_of_ble_eq_true rfl) (fun x116 u116 h116 => ?_)
            obtain ⟨⟨fpl, hl1, hl2⟩, hl3, hl4, hl5, hl6⟩ := h116
            refine z_wf (fun hw2 => ?_)
            have hfl2 : ∀ a ∈ fpl, a < sz_ u116 := fun a ha => (hw2.1 a (by have := (TT.mem _ _ _ _ _ hl1).2.1 a ha; unfold K5 at this; omega)).1
            have smT : ∀ a ∈ fpT u1 cur cs1, Sm u1 u116 a := fun a ha => hl6 a (hlt1 a ha)
            have hfF : ∀ a ∈ fpF u1 (rv_ u1 cur 3), a ∈ fpT u1 cur cs1 := fun a ha => by unfold fpT; simp [ha]
            obtain ⟨hF2, hf2⟩ := hF1.same (v := u116) (fun a ha => smT a (hfF a ha))
            have htk2 : Tk u116 (kx cs1) := fun x hx => by
              have h6 := hD1.tk x hx
              rw [(hl6 x.2 (hw1.1 x.2 (by omega)).1).1]; exact h6
            have hroom : (kx cs1).length < 40 := by
              rw [kx_len]
              have h1 := hD1.kids_le
              obtain ⟨-, -, -, A', B', hES, -⟩ := hH
              have h2 : ES.length = A'.length + ((es1.length + (ke cs1).length) + B'.length) := by rw [hES, ← hes]; simp; omega
              omega
            have hb : ∀ x ∈ kx cs1, x.1 ≠ b := (lk_0 hFs).mp hl0
            refine or_call (hF2.k2) (fun hq cc => kX5_77_8 ho hN (c_F8_put _ _ hF2 hb (by omega) (by omega) hl3 htk2 hroom hq) dX5_put_119 hq (by omega) (Nat.le_of_ble_eq_true rfl) (Nat.le_of_ble_eq_true rfl) (Nat.le_of_ble_eq_true rfl) cc) (fun hq cc => kX5_77_16 ho hN (c_F16_put' _ _ hF2 hb (by omega) (by omega) hl3 htk2 hroom hq) dX5_put_119 hq (by omega) (Nat.le_of_ble_eq_true rfl) (Nat.le_of_ble_eq_true rfl) (Nat.le_of_ble_eq_true rfl) cc) (fun x119 u119 h119 => ?_)
            obtain ⟨p1, p2, p3⟩ := h119
            refine pX5_47 ho dX5_put_122 (by rw [(p3.2 cur (by have := hlt1 cur (by simp [fpT]); omega)).1, (smT cur (by simp [fpT])).1]; exact kc)  ?_
            refine z_cu (cu' := 16) (su' := 452) (Nat.le_of_ble_eq_true rfl) (Nat.le_of_ble_eq_true rfl) ?_
            obtain ⟨c1, md, c2, hcs, g1, g2, g3⟩ := kid_cut hFs b
            have hmd : md = [] := by
              rcases g3 with ⟨z, -⟩ | ⟨d, z1, z2, z3⟩
              · exact z
              · exact absurd z2 (hb (d.1, d.2.1) (mem_kx.mpr ⟨d, by rw [hcs, z1]; simp, rfl⟩))
            rw [hmd, List.nil_append] at hcs
            have ekx : kx (c1 ++ (b, x116, [e], fpl) :: c2) = ins b x116 (kx cs1) := by
              rw [hcs, kx_app, kx_app]
              refine (ins_split (fun x hx => ?_) (fun x hx => ?_)).symm
              · obtain ⟨d, hd, rfl⟩ := mem_kx.mp hx; exact g1 d hd
              · obtain ⟨d, hd, rfl⟩ := mem_kx.mp hx; exact g2 d hd
            have hcl1 := hlt1 cur (by simp [fpT])
            have N2 : ∀ a, a < sz_ u116 → a ∉ fpF u1 (rv_ u1 cur 3) → a ≠ cur → Sm u116 (wR_ u119 cur 3 x119) a := fun a z1 z2 z3 => ((p3.2 a z1).2.2 (fun q => z2 (by rw [← hf2]; exact q))).tr (Sm.wR z3)
            have N : ∀ a, a < sz_ u1 → a ∉ fpF u1 (rv_ u1 cur 3) → a ≠ cur → Sm u1 (wR_ u119 cur 3 x119) a := fun a z1 z2 z3 => (hl6 a z1).tr (N2 a (by omega) z2 z3)
            have hnd1 := hD1.2.2.2.2.2.1
            unfold fpT at hnd1
            obtain ⟨nd1, nd2⟩ := List.nodup_cons.mp hnd1
            obtain ⟨nd3, nd4⟩ := List.nodup_cons.mp nd2
            obtain ⟨nd5, nd6, nd7⟩ := List.nodup_append.mp nd4
            have kfN : ∀ a ∈ kf_ cs1, Sm u1 (wR_ u119 cur 3 x119) a := fun a ha => N a (hlt1 a (by unfold fpT; simp [ha])) (fun z => nd7 a z a ha rfl) (fun z => nd1 (by rw [z] at ha; simp [ha]))
            have scur : Sm u1 u116 cur := hl6 cur hcl1
            have ncf : cur ∉ fpF u1 (rv_ u1 cur 3) := fun z => nd1 (by simp [z])
            have scur2 : Sm u116 u119 cur := (p3.2 cur (by omega)).2.2 (fun q => ncf (by rw [← hf2]; exact q))
            have enw : ∀ x, En u1 x → En (wR_ u119 cur 3 x119) x ∧ tx (wR_ u119 cur 3 x119) x = tx u1 x := fun x hx => by
              have hl := hx.1.lt hw1
              have k5F := hF1.kinds
              have s1 := N x hl.1 (fun z => by have := k5F x z; rw [hx.2] at this; omega) (fun z => by rw [z] at hx; have := hx.2; omega)
              have := hx.1.same s1 (N (x + 1) hl.2.1 (fun z => by have := k5F _ z; rw [hx.1.2.2.1] at this; omega) (fun z => by have := hx.1.2.2.1; rw [z] at this; omega))
              exact ⟨⟨this.1, by rw [s1.1]; exact hx.2⟩, this.2⟩
            have hCC := hD1.2.2.2.2.1
            have hnecs : rt = true ∨ rv_ u1 cur 2 ≠ 0 ∨ 2 ≤ (c1 ++ (b, x116, [e], fpl) :: c2).length := by
              rcases hne1 with z | z
              · exact Or.inl z
              · refine Or.inr ?_
                rcases hD1.2.2.2.1 with ⟨y1, y2⟩ | ⟨y1, y2, y3⟩
                · right
                  rw [← hes, y2, List.nil_append] at z
                  have : cs1 ≠ [] := fun q => z (by rw [q]; rfl)
                  have := List.length_pos_iff.mpr this
                  rw [hcs] at this
                  simp at this ⊢
                  omega
                · exact Or.inl (y1.ne0 hw1)
            have v1 : Fn (wR_ u119 cur 3 x119) x119 (kx (c1 ++ (b, x116, [e], fpl) :: c2)) := by
              rw [ekx]
              refine (p1.same (v := wR_ u119 cur 3 x119) (fun a ha => Sm.wR (fun z => ?_))).1
              rcases p2 a ha with q | q
              · rw [hf2, z] at q; exact ncf q
              · omega
            have v2 : ∀ a ∈ fpF (wR_ u119 cur 3 x119) x119, a ∈ fpF u1 (rv_ u1 cur 3) ∨ sz_ u116 ≤ a := by
              intro a ha
              rw [(p1.same (v := wR_ u119 cur 3 x119) (fun a ha => Sm.wR (fun z => by
                rcases p2 a ha with q | q
                · rw [hf2, z] at q; exact ncf q
                · omega))).2] at ha
              rcases p2 a ha with q | q
              · left; rw [← hf2]; exact q
              · exact Or.inr q
            have v3 : ∀ c ∈ c1 ++ (b, x116, [e], fpl) :: c2, TT (wR_ u119 cur 3 x119) (max n1 1) (p ++ pth u1 cur ++ [c.1]) c.2.1 c.2.2.1 c.2.2.2 := by
              intro c hcm
              rw [hpA]
              rcases List.mem_append.mp hcm with q | q
              · have hcc : c ∈ cs1 := by rw [hcs]; simp [q]
                have := hCC c hcc
                rw [hpA] at this
                exact TT.mono _ _ _ _ _ _ (TT.frame _ _ _ _ _ this (fun a ha => kfN a (mem_kf.mpr ⟨c, hcc, ha⟩)) (fun x hx => enw x ((TT.mem _ _ _ _ _ this).1 x hx).1)) (by omega)
              · rcases List.mem_cons.mp q with q | q
                · subst q
                  have hge : ∀ a ∈ fpl, a ∉ fpF u1 (rv_ u1 cur 3) ∧ a ≠ cur := fun a ha => ⟨fun z => by have := hl2 a ha; have := hlt1 a (hfF a z); omega, fun z => by have := hl2 a ha; omega⟩
                  refine TT.mono _ _ _ _ _ _ (TT.frame _ _ _ _ _ hl1 (fun a ha => N2 a (hfl2 a ha) (hge a ha).1 (hge a ha).2) (fun x hx => ?_)) (by omega)
                  rw [List.mem_singleton.mp hx]
                  have h1 := enw e en1
                  have hle := en1.1.lt hw1
                  have h2 := en1.1.same (hl6 e hle.1) (hl6 (e + 1) hle.2.1)
                  exact ⟨h1.1, by rw [h1.2, h2.2]⟩
                · have hcc : c ∈ cs1 := by rw [hcs]; simp [q]
                  have := hCC c hcc
                  rw [hpA] at this
                  exact TT.mono _ _ _ _ _ _ (TT.frame _ _ _ _ _ this (fun a ha => kfN a (mem_kf.mpr ⟨c, hcc, ha⟩)) (fun x hx => enw x ((TT.mem _ _ _ _ _ this).1 x hx).1)) (by omega)
            have v4 : (kf_ (c1 ++ (b, x116, [e], fpl) :: c2)).Nodup := by
              rw [kf_app, show kf_ ((b, x116, [e], fpl) :: c2) = fpl ++ kf_ c2 from rfl]
              rw [hcs, kf_app] at nd6
              rw [hcs] at hlt1
              refine nd_rep (C := []) (N := sz_ u1) (by simpa using nd6) hl1.nd (fun a ha => Or.inr (hl2 a ha)) (fun a ha => hlt1 a ?_)
              unfold fpT
              rw [kf_app]
              simp at ha ⊢
              rcases ha with q | q <;> simp [q]
            have v5 : ∀ a ∈ kf_ (c1 ++ (b, x116, [e], fpl) :: c2), a ∈ kf_ cs1 ∨ (sz_ u1 ≤ a ∧ a < sz_ u116) := by
              intro a ha
              rw [kf_app, show kf_ ((b, x116, [e], fpl) :: c2) = fpl ++ kf_ c2 from rfl] at ha
              rw [hcs, kf_app]
              simp only [List.mem_append] at ha ⊢
              rcases ha with q | q | q
              · exact Or.inl (Or.inl q)
              · exact Or.inr ⟨hl2 a q, hfl2 a q⟩
              · exact Or.inl (Or.inr q)
            obtain ⟨d1, d2, d3⟩ := hD1.fan (w := wR_ u119 cur 3 x119) (m := max n1 1) (r := x119) (M := sz_ u116) (rt' := rt) (D := []) (ds := c1 ++ (b, x116, [e], fpl) :: c2) hlt1 hl5 (fun a z1 z2 z3 _ => N a (hlt1 a z1) z3 z2) (by rw [kd_wR, scur2.1, scur.1]; exact kc) (by rw [rv_wR, if_neg (by omega), scur2.2.2.2, scur.2.2.2]) (by rw [iv_wR, scur2.2.2.1, scur.2.2.1]) (by rw [rv_wR, if_neg (by omega), scur2.2.2.2, scur.2.2.2]) (by rw [rv_wR, if_pos ⟨rfl, rfl⟩]) v1 v2 (by simp) v3 v4 v5 (fun x hx => enw x (hD1.en0 x hx).1) hnecs
            refine tail _ _ _ _ _ (fin _ cur rt p es fp _ _ _ hH (fun a h1 h2 => (hsf a h1 h2).tr (N a (by omega) (fun z => ?_) (fun z => h2 (z ▸ hcf)))) (fun a ha => ?_) (by rw [sz_wR]; have := p3.1; omega) d1.tn (fun a ha => ?_) (fun z => by rw [d2, hpA]; exact hrA z) (fun x => ?_))
            · rcases hfp1 a (hfF a z) with q | q
              · exact h2 q
              · omega
            · have q1 := hl6 a (by omega)
              have q2 := p3.2 a (by omega)
              exact ⟨by rw [kd_wR, q2.1, q1.1]; exact (kd1 a ha).1, by rw [ln_wR, q2.2.1, q1.2.1]; exact (kd1 a ha).2⟩
            · rcases d3 a ha with q | q
              · exact hfp1 a q
              · exact Or.inr (by omega)
            · rw [← hes, hcs, ke_app, ke_app, show ke ((b, x116, [e], fpl) :: c2) = [e] ++ ke c2 from rfl]
              simp only [List.mem_append, List.mem_singleton]
              constructor
              · rintro (q | q | q | q)
                · exact Or.inl (Or.inl q)
                · exact Or.inl (Or.inr (Or.inl q))
                · exact Or.inr q
                · exact Or.inl (Or.inr (Or.inr q))
              · rintro ((q | q | q) | q)
                · exact Or.inl q
                · exact Or.inr (Or.inl q)
                · exact Or.inr (Or.inr (Or.inr q))
                · exact Or.inr (Or.inr (Or.inl q))
        · simp at hlen; omega
  have body : ∀ n : Nat, (∀ m : Nat, n = m + 1 → ∀ (cur : Nat) (rt : Bool) (p q : List Int) (es0 : List Nat) (cs : List Kid) (tm tm' : Option AV), TD u m rt p cur es0 cs → Hy u root FP ES rt p cur (es0 ++ ke cs) (fpT u cur cs) → oc u e = p ++ q → Z X 10 [some (aR t), some (aR e), some (aR cur), some (aI (p.length : Int)), some (aI 0), tm, tm'] [] u 0 0) →
      ∀ (cur : Nat) (rt : Bool) (p q : List Int) (es0 : List Nat) (cs : List Kid) (tm tm' : Option AV), TD u n rt p cur es0 cs → Hy u root FP ES rt p cur (es0 ++ ke cs) (fpT u cur cs) → oc u e = p ++ q → Z X 10 [some (aR t), some (aR e), some (aR cur), some (aI (p.length : Int)), some (aI 0), tm, tm'] [] u 0 0 := by
    intro n hrec cur rt p q es0 cs tm tm' hD hH ho'
    have kc := hD.1
    have hF := hD.2.2.1
    have hpl := pth_len hD.2.1.2.2.1
    have hn1 := hD.2.1.2.2.2.1
    have hlen : (p.length : Int) + q.length = 2 * ((tx u e).length : Int) := by rw [← hol.1, ho']; simp
    have hl16 := hol.2
    rw [ho', List.length_append] at hl16
    have hin : ∀ x ∈ es0 ++ ke cs, x ∈ ES := fun x hx => by
      obtain ⟨-, -, -, A', B', hES, -⟩ := hH
      rw [hES]; simp only [List.mem_append] at hx ⊢; exact Or.inr (Or.inl hx)
    have hne0 : rt = true ∨ es0 ++ ke cs ≠ [] := by
      cases rt with
      | true => exact Or.inl rfl
      | false => exact Or.inr ((TR.mem hD.tn).2.2.1 rfl)
    refine z_iload ho dX5_put_10 rfl ?_
    refine z_if_ne (tgt := 139) ho dX5_put_12 (by decide) (by unfold rng; omega) (fun c12 => ?_) (fun c12 => ?_)
    · exact absurd rfl c12
    · 
      refine z_aload_n ho dX5_put_15 rfl ?_
      refine z_aload_n ho dX5_put_16 rfl ?_
      refine z_iload_n ho dX5_put_17 rfl ?_
      refine kX5_30 ho hN (c_common _ _ kc hD.2.1 he.1 ho' rfl) dX5_put_18 kc (by omega) (Nat.le_of_ble_eq_true rfl) (Nat.le_of_ble_eq_true rfl) (Nat.le_of_ble_eq_true rfl) (fun x18 u18 h18 => ?_)
      obtain ⟨rfl, A, B, C, hAB, hAC, rfl, hd⟩ := h18
      have hAl : (pth u cur).length = A.length + B.length := by rw [hAB]; simp
      have hCl : q.length = A.length + C.length := by rw [hAC]; simp
      have hoe : oc u e = p ++ (A ++ C) := by rw [ho', hAC]
      refine z_istore ho dX5_put_21 (Nat.le_of_ble_eq_true rfl) rfl ?_
      refine z_iload ho dX5_put_23 rfl ?_
      refine z_aload_n ho dX5_put_25 rfl ?_
      refine gX5_34 ho dX5_put_26 kc ?_
      refine z_icmp_ge (tgt := 38) ho dX5_put_29 (by decide) (by unfold rng; omega) (by unfold rng; omega) (fun c29 => ?_) (fun c29 => ?_)
      · have hB : B = [] := List.eq_nil_of_length_eq_zero (by omega)
        subst hB
        rw [List.append_nil] at hAB
        have hDt : TD u n true p cur es0 cs := ⟨hD.1, hD.2.1, hD.2.2.1, hD.2.2.2.1, hD.2.2.2.2.1, hD.2.2.2.2.2.1, Or.inl rfl⟩
        have go : (∀ b C', C = b :: C' → lk b (kx cs) = 0) → Z X 38 [some (aR t), some (aR e), some (aR cur), some (aI (p.length : Int)), some (aI 0), some (aI (A.length : Int)), tm'] [] u 0 0 := fun hl => by
          refine z_cu (cu' := 8) (su' := 90) (Nat.le_of_ble_eq_true rfl) (Nat.le_of_ble_eq_true rfl) ?_
          exact last u cur n rt p A C es0 _ _ cs tm' hH hDt rfl hAB hoe kc rfl (fun a _ _ => Sm.rf u a) (Nat.le_refl _) (fun a ha => Or.inl ha) hne0 (fun z => by rw [← hAB]; exact hH.2.2.1 z) hl (by simp [fpT])
        cases C with
        | nil => exact go (fun b C' z => by cases z)
        | cons b C =>
          have hoc : oc u e = (p ++ pth u cur) ++ b :: C := by rw [hoe, hAB]; simp
          rcases hD.pick hoc with ⟨g1, -, -⟩ | ⟨c1, c, c2, hcs, hcb, hlk, hc0, hm⟩
          · exact go (fun b' C' z => by cases z; exact g1)
          · have hat := he.1.oc_at hoc
            rw [List.length_append, hAB] at hat
            have e1 : (p.length : Int) + (A.length : Int) = ((p.length + A.length : Nat) : Int) := by omega
            simp only [List.length_cons] at hCl
            refine z_iload_n ho dX5_put_38 rfl ?_
            refine z_iload ho dX5_put_39 rfl ?_
            refine z_iadd ho dX5_put_41 ?_
            refine z_istore_n ho dX5_put_42 (Nat.le_of_ble_eq_true rfl) rfl ?_
            refine z_iload_n ho dX5_put_43 rfl ?_
            refine z_aload_n ho dX5_put_44 rfl ?_
            refine kX5_69 ho hN (c_bytes _ _ he.1) dX5_put_45 he.2 (by omega) (Nat.le_of_ble_eq_true rfl) (Nat.le_of_ble_eq_true rfl) (Nat.le_of_ble_eq_true rfl) (fun x45 u45 h45 => ?_)
            obtain ⟨rfl, rfl⟩ := h45
            refine z_icmp_ge (tgt := 66) ho dX5_put_48 (by decide) (by unfold rng; omega) (by unfold rng; omega) (fun c48 => ?_) (fun c48 => ?_)
            · omega
            · 
              refine z_aload_n ho dX5_put_51 rfl ?_
              refine gX5_47 ho dX5_put_52 kc ?_
              refine z_aload_n ho dX5_put_55 rfl ?_
              refine z_iload_n ho dX5_put_56 rfl ?_
              refine kX5_72 ho hN (c_octet _ _ he.1 (by omega) (by rw [e1]; exact hat.2.1)) dX5_put_57 he.2 (by omega) (Nat.le_of_ble_eq_true rfl) (Nat.le_of_ble_eq_true rfl) (Nat.le_of_ble_eq_true rfl) (fun x57 u57 h57 => ?_)
              obtain ⟨rfl, rfl⟩ := h57
              rw [e1, hat.1, ← e1]
              refine or_call (hF.k2) (fun hq cc => kX5_51_8 ho hN (c_G8_get _ _ hF (by omega) (by omega) hq) dX5_put_60 hq (by omega) (Nat.le_of_ble_eq_true rfl) (Nat.le_of_ble_eq_true rfl) (Nat.le_of_ble_eq_true rfl) cc) (fun hq cc => kX5_51_16 ho hN (c_G16_get _ _ hF (by omega) (by omega) hq) dX5_put_60 hq (by omega) (Nat.le_of_ble_eq_true rfl) (Nat.le_of_ble_eq_true rfl) (Nat.le_of_ble_eq_true rfl) cc) (fun x60 u60 h60 => ?_)
              obtain ⟨rfl, rfl⟩ := h60
              rw [hlk]
              refine z_goto (tgt := 67) ho dX5_put_63 (by decide) ?_
              refine z_astore ho dX5_put_67 (Nat.le_of_ble_eq_true rfl) rfl ?_
              refine z_aload ho dX5_put_69 rfl ?_
              refine z_ifnonnull (tgt := 78) ho dX5_put_71 (by decide) (fun c71 => ?_) (fun c71 => ?_)
              · 
                refine z_iconst ho dX5_put_78 ?_
                refine z_istore ho dX5_put_79 (Nat.le_of_ble_eq_true rfl) rfl ?_
                refine z_iload_n ho dX5_put_81 rfl ?_
                refine z_aload_n ho dX5_put_82 rfl ?_
                refine kX5_69 ho hN (c_bytes _ _ he.1) dX5_put_83 he.2 (by omega) (Nat.le_of_ble_eq_true rfl) (Nat.le_of_ble_eq_true rfl) (Nat.le_of_ble_eq_true rfl) (fun x83 u83 h83 => ?_)
                obtain ⟨rfl, rfl⟩ := h83
                refine z_icmp_ne (tgt := 97) ho dX5_put_86 (by decide) (by unfold rng; omega) (by unfold rng; omega) (fun c86 => ?_) (fun c86 => ?_)
                · 
                  refine z_aload ho dX5_put_97 rfl ?_
                  refine z_ifnonnull (tgt := 125) ho dX5_put_99 (by decide) (fun c99 => ?_) (fun c99 => ?_)
                  · 
                    refine z_iload ho dX5_put_125 rfl ?_
                    refine z_if_ne (tgt := 133) ho dX5_put_127 (by decide) (by unfold rng; omega) (fun c127 => ?_) (fun c127 => ?_)
                    · exact absurd rfl c127
                    · 
                      refine z_aload ho dX5_put_130 rfl ?_
                      refine z_astore_n ho dX5_put_132 (Nat.le_of_ble_eq_true rfl) rfl ?_
                      refine z_iinc ho dX5_put_133 rfl rfl ?_
                      refine z_goto (tgt := 10) ho dX5_put_136 (by decide) ?_
                      subst hcs
                      obtain ⟨m, hm1, hTm⟩ := (hD.2.2.2.2.1 c (by simp)).node
                      obtain ⟨es', cs', hTD', he', hf'⟩ := hTm.td
                      have hH' := hH.down hD hw
                      rw [he', hf'] at hH'
                      have hpp : ((p ++ pth u cur ++ [c.1]).length : Int) = (p.length : Int) + (A.length : Int) + 1 := by rw [List.length_append, List.length_append, hAB]; simp
                      have := hrec m hm1 c.2.1 false (p ++ pth u cur ++ [c.1]) C es' cs' (some (aI (A.length : Int))) (some (aR c.2.1)) hTD' hH' (by rw [hoc, hcb]; simp)
                      rw [hpp] at this
                      exact this
                  · exact absurd c99 hc0
                · omega
              · exact absurd c71 hc0
      · -- the path is cut
        cases B with
        | nil => simp at hAl; omega
        | cons b B =>
        have hrf : rt = false := by
          rcases hH.2.1 with ⟨z, -⟩ | ⟨z, -⟩
          · have := hH.2.2.1 z
            rw [hAB] at this
            simp at this
          · exact z
        have hne : rv_ u cur 2 ≠ 0 ∨ 2 ≤ cs.length := by
          have := hD.2.2.2.2.2.2
          rw [hrf] at this
          simpa using this
        refine z_aload_n ho dX5_put_32 rfl ?_
        refine z_iload ho dX5_put_33 rfl ?_
        refine kX5_65 ho hN (c_split _ _ hD hAB rfl hne) dX5_put_35 kc (by omega) (Nat.le_of_ble_eq_true rfl) (Nat.le_of_ble_eq_true rfl) (Nat.le_of_ble_eq_true rfl) (fun u35 h35 => ?_)
        obtain ⟨⟨T, fpr, q1, q2, q3⟩, q4, q5, q6⟩ := h35
        refine last _ cur (n + 1) rt p A C [] _ _ _ tm' hH q1 (by simp [ke]) q2 hoe kc q5 q6 q4 q3 hne0 (fun z => by rw [hrf] at z; cases z) (fun b' C' z => ?_) (by simp [fpT])
        rcases hd with y | y | ⟨b2, B2, c2, C2, y1, y2, y3⟩
        · simp at y
        · rw [y] at z; cases z
        · cases y1
          rw [y2] at z
          cases z
          rw [lk_0 q1.2.2.1.srt]
          intro x hx
          simp [kx] at hx
          rw [hx]
          exact y3
  have key : ∀ (n : Nat) (cur : Nat) (rt : Bool) (p q : List Int) (es0 : List Nat) (cs : List Kid) (tm tm' : Option AV), TD u n rt p cur es0 cs → Hy u root FP ES rt p cur (es0 ++ ke cs) (fpT u cur cs) → oc u e = p ++ q → Z X 10 [some (aR t), some (aR e), some (aR cur), some (aI (p.length : Int)), some (aI 0), tm, tm'] [] u 0 0 := by
    intro n
    induction n with
    | zero => exact body 0 (fun m h => by omega)
    | succ n ih => exact body (n + 1) (fun m h => by cases h; exact ih)
  refine z_aload_n ho dX5_put_0 rfl ?_
  refine gX5_12 ho dX5_put_1 y1 ?_
  refine z_astore_n ho dX5_put_4 (Nat.le_of_ble_eq_true rfl) rfl ?_
  refine z_iconst ho dX5_put_5 ?_
  refine z_istore_n ho dX5_put_6 (Nat.le_of_ble_eq_true rfl) rfl ?_
  refine z_iconst ho dX5_put_7 ?_
  refine z_istore ho dX5_put_8 (Nat.le_of_ble_eq_true rfl) rfl ?_
  rw [hR]
  obtain ⟨es0, cs, hTD, he', hf'⟩ := hTN.td
  exact key n root true [] (oc u e) es0 cs none none hTD (by rw [← he', ← hf']; exact Hy.top hp0) rfl
