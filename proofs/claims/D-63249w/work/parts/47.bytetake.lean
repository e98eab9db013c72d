set_option maxRecDepth 100000
/-! ===== ByteTree.take ===== -/
theorem c_YT_take (l : Launch) (u : Mem) {G : Nat → Prop} {t e : Nat} {S : List Nat} (hT : YT G u t S) (hGl : ∀ a, G a → a < sz_ u) (hSl : S.length ≤ 40) (heS : e ∈ S) :
    Mt_ l yX5_take cX5_take 3 none 4 3 35 [aR t, aR e] u (qV fun u' => (∀ S', (∀ x, x ∈ S' ↔ x ∈ S ∧ x ≠ e) → YT G u' t S') ∧ Fr (Q5 G t) u u' ∧ ∀ i, i ≠ 5 → iv_ u' t i = iv_ u t i) := by
  obtain ⟨w3, w4, n, ES, FP, hY, hTN, hp0, h3, h4, hS, hG⟩ := hT
  have hk5 := (TR.mem hTN).2.1
  have hEn := (TR.mem hTN).1
  have heE := (hS e).mp heS
  have he := (hEn e heE).1
  refine Mt_of (by decide) (Nat.le_of_ble_eq_true rfl) (fun X ho hX hN hI => ?_)
  subst hX
  show Z X 0 [some (aR t), some (aR e), none] [] u 0 0
  refine z_wf (fun hw => ?_)
  have y1 := hY.1
  have ht5 : t ∉ FP := fun z => by have := hk5 t z; unfold K5 at this; omega
  have hso := TR.sorted hTN
  have hnd := sorted_nd hso
  have hESl : ES.length ≤ 40 := by
    have := nd_sub ES S hnd (fun x hx => (hS x).mpr hx)
    omega
  refine z_aload_n ho dX5_take_0 rfl ?_
  refine z_aload_n ho dX5_take_1 rfl ?_
  refine kX5_57 ho hN (c_descend _ _ hY hTN h3 h4 hp0 he.1) dX5_take_2 y1 (by omega) (Nat.le_of_ble_eq_true rfl) (Nat.le_of_ble_eq_true rfl) (Nat.le_of_ble_eq_true rfl) (fun x2 u2 h2 => ?_)
  obtain ⟨D, hres⟩ := h2
  rcases hres with ⟨-, hno⟩ | ⟨n', rt, p, es0, cs, hD, hoc, hH, hm, hw16, hP⟩
  · exact absurd rfl (hno e heE)
  have he0 := hm e heE rfl
  obtain ⟨-, -, hes0, her⟩ := hD.en0 e he0
  refine z_wf (fun hwv => ?_)
  have hFs : ∀ a ∈ FP, Sm u u2 a := fun a ha => D.1 a (fun z => ht5 (z ▸ ha)) (fun z => h3 (z ▸ ha)) (fun z => h4 (z ▸ ha))
  have hEv : ∀ x ∈ ES, En u2 x ∧ tx u2 x = tx u x := fun x hx => D.en hY (hEn x hx).1
  have frm : ∀ {n : Nat} {rt : Bool} {p : List Int} {cur : Nat} {es0 : List Nat} {cs : List Kid}, TD u n rt p cur es0 cs → (∀ a ∈ fpT u cur cs, a ∈ FP) → TD u2 n rt p cur es0 cs ∧ fpT u2 cur cs = fpT u cur cs ∧ pth u2 cur = pth u cur := fun h hf => h.frame (fun a ha => hFs a (hf a ha)) (fun x hx => D.en hY (h.ene x hx).1)
  have hYv := D.yc hY
  have eR : rv_ u2 t 2 = rv_ u t 2 := D.2.2.2.1 2
  obtain ⟨hDv, hfv, hpv⟩ := frm hD hH.1
  have hHv := hH.frame hFs hEv D.2.1 hpv
  rw [← hfv] at hHv
  have hk5v : ∀ a ∈ FP, K5 (kd_ u2 a) := fun a ha => by rw [(hFs a ha).1]; exact hk5 a ha
  have hFl : ∀ a ∈ FP, a < sz_ u2 := fun a ha => (hwv.1 a (by have := hk5v a ha; unfold K5 at this; omega)).1
  have her2 : rv_ u2 x2 2 = e := by rw [(hFs x2 (hH.1 _ (by simp [fpT]))).2.2.2]; exact her.symm
  have hP2 : (iv_ u2 t 5 = 0 ∧ rt = true) ∨ (0 < iv_ u2 t 5 ∧ rt = false ∧ ∃ n2 rt2 p2 pt es2 c1 c c2, TD u2 n2 rt2 p2 pt es2 (c1 ++ c :: c2) ∧ Hy u2 (rv_ u t 2) FP ES rt2 p2 pt (es2 ++ ke (c1 ++ c :: c2)) (fpT u2 pt (c1 ++ c :: c2)) ∧ rv_ u2 w3 (iv_ u2 t 5 - 1) = pt ∧ iv_ u2 w4 (iv_ u2 t 5 - 1) = c.1 ∧ c.2.1 = x2 ∧ c.2.2.1 = es0 ++ ke cs ∧ c.2.2.2 = fpT u2 x2 cs) := by
    rcases hP with h | ⟨q1, q2, n2, rt2, p2, pt, es2, c1, c, c2, q3, q4, q5, q6, q7, q8, q9⟩
    · exact Or.inl h
    · obtain ⟨z1, z2, z3⟩ := frm q3 q4.1
      refine Or.inr ⟨q1, q2, n2, rt2, p2, pt, es2, c1, c, c2, z1, ?_, q5, q6, q7, q8, by rw [hfv]; exact q9⟩
      rw [z2]
      exact q4.frame hFs hEv D.2.1 z3
  have hGv : ∀ a, G a → a < sz_ u2 := fun a ha => by rw [D.2.1]; exact hGl a ha
  have hFr : Fr (Q5 G t) u u2 := ⟨D.fr.1, fun a ha => ⟨(D.2.2.1 a).1, (D.2.2.1 a).2, fun q => D.1 a (fun z => q (Or.inr z)) (fun z => q (Or.inl ⟨by rw [z, hY.2.2.2.1]; unfold K5; decide, hG a (Or.inr (Or.inl z))⟩)) (fun z => q (Or.inl ⟨by rw [z, hY.2.2.2.2.2.1]; unfold K5; decide, hG a (Or.inr (Or.inr z))⟩))⟩⟩
  have hiv := D.2.2.2.2
  have hEnv : ∀ x ∈ ES, En u2 x := fun x hx => (hEv x hx).1
  generalize rv_ u t 2 = root at *
  clear hFs hEv frm hH hD hP hfv hpv hoc hm hp0 hTN
  generalize hvv : u2 = v at *
  have enk : ∀ (w : Mem) (fp : List Nat), (∀ a ∈ fp, a ∈ FP) → (∀ a, a < sz_ v → a ∉ fp → Sm v w a) → ∀ x, En v x → En w x ∧ tx w x = tx v x := fun w fp hf hs x hx => by
    have hl := hx.1.lt hwv
    have s1 := hs x hl.1 (fun z => by have := hk5v x (hf x z); rw [hx.2] at this; unfold K5 at this; omega)
    have := hx.1.same s1 (hs (x + 1) hl.2.1 (fun z => by have := hk5v _ (hf _ z); rw [hx.1.2.2.1] at this; unfold K5 at this; omega))
    exact ⟨⟨this.1, by rw [s1.1]; exact hx.2⟩, this.2⟩
  have fin : ∀ (w : Mem) (cur : Nat) (rt : Bool) (p : List Int) (es fp : List Nat) (n' : Nat) (es' fp' : List Nat), Hy v root FP ES rt p cur es fp → e ∈ es → (∀ a, a < sz_ v → a ∉ fp → Sm v w a) → (∀ a, a < sz_ v → kd_ w a = kd_ v a ∧ ln_ w a = ln_ v a) → sz_ v ≤ sz_ w → TN w (TT w n') rt p cur es' fp' → (∀ a ∈ fp', a ∈ fp ∨ sz_ v ≤ a) → (rt = true → pth w cur = []) → (∀ x, x ∈ es' ↔ x ∈ es ∧ x ≠ e) →
      (∀ S', (∀ x, x ∈ S' ↔ x ∈ S ∧ x ≠ e) → YT G w t S') ∧ Fr (Q5 G t) u w ∧ ∀ i, i ≠ 5 → iv_ w t i = iv_ u t i := by
    intro w cur rt p es fp n' es' fp' hH hee hs hkl hz hTw hfp hpw hm
    obtain ⟨h1, hrt, hpr, A, B, hES, h2⟩ := hH
    have hen := enk w fp h1 hs
    obtain ⟨n'', fp'', g1, g0, g2⟩ := h2 w n' es' fp' (fun a ha hna => hs a (hFl a ha) hna) (fun x hx => hen x (hEnv x (by rw [hES]; simp only [List.mem_append] at hx ⊢; rcases hx with q | q; (· exact Or.inl q); exact Or.inr (Or.inr q)))) hTw hfp hpw
    obtain ⟨y1, y2, y3, y4, y5, y6, y7⟩ := hYv
    have l3 := hwv.1 w3 (by omega)
    have l4 := hwv.1 w4 (by omega)
    have lt := hwv.1 t (by omega)
    have st := hs t lt.1 (fun z => ht5 (h1 _ z))
    have s3 := hs w3 l3.1 (fun z => h3 (h1 _ z))
    have s4 := hs w4 l4.1 (fun z => h4 (h1 _ z))
    have er : rv_ w t 2 = root := by rw [st.2.2.2]; exact eR
    have hFw : Fr (Q5 G t) v w := ⟨hz, fun a ha => ⟨(hkl a ha).1, (hkl a ha).2, fun q => hs a ha (fun z => q (Or.inl ⟨hk5v a (h1 a z), hG a (Or.inl (h1 a z))⟩))⟩⟩
    refine ⟨fun S' hS' => ⟨w3, w4, n'', A ++ (es' ++ B), fp'', ⟨by rw [st.1]; exact y1, by rw [st.2.2.2]; exact y2, by rw [st.2.2.2]; exact y3, by rw [s3.1]; exact y4, by rw [s3.2.1]; exact y5, by rw [s4.1]; exact y6, by rw [s4.2.1]; exact y7⟩, by rw [er]; exact g1, by rw [er]; exact g0, fun z => ?_, fun z => ?_, fun x => ?_, fun a ha => ?_⟩, hFr.tr hFw, fun i hi => by rw [st.2.2.1]; exact hiv i hi⟩
    · rcases g2 _ z with q | q
      · exact h3 q
      · omega
    · rcases g2 _ z with q | q
      · exact h4 q
      · omega
    · rw [hS' x, hS x]
      rw [hES] at hnd
      obtain ⟨-, b1, b2⟩ := List.nodup_append.mp hnd
      obtain ⟨-, -, b3⟩ := List.nodup_append.mp b1
      have nA : ∀ x ∈ A, x ≠ e := fun x hx => b2 x hx e (by simp [hee])
      have nB : ∀ x ∈ B, x ≠ e := fun x hx z => b3 e hee x hx z.symm
      rw [hES]
      simp only [List.mem_append, hm x]
      constructor
      · rintro ⟨q | q | q, q'⟩
        · exact Or.inl q
        · exact Or.inr (Or.inl ⟨q, q'⟩)
        · exact Or.inr (Or.inr q)
      · rintro (q | q | q)
        · exact ⟨Or.inl q, nA x q⟩
        · exact ⟨Or.inr (Or.inl q.1), q.2⟩
        · exact ⟨Or.inr (Or.inr q), nB x q⟩
    · rcases ha with q | q | q
      · rcases g2 a q with z | z
        · exact hG a (Or.inl z)
        · exact fun y => by have := hGv a y; omega
      · exact hG a (Or.inr (Or.inl q))
      · exact hG a (Or.inr (Or.inr q))
  have endp : ∀ (w : Mem) (cur : Nat) (rt : Bool) (p : List Int) (es fp : List Nat) (n1 : Nat) (es1 : List Nat) (cs1 : List Kid), Hy v root FP ES rt p cur es fp → cur ∈ fp → e ∈ es → (∀ a, a < sz_ v → a ∉ fp → Sm v w a) → (∀ a, a < sz_ v → kd_ w a = kd_ v a ∧ ln_ w a = ln_ v a) → sz_ v ≤ sz_ w → TD w n1 true p cur es1 cs1 → (∀ a ∈ fpT w cur cs1, a ∈ fp ∨ sz_ v ≤ a) → (rt = true → pth w cur = []) → (∀ x, x ∈ es1 ++ ke cs1 ↔ x ∈ es ∧ x ≠ e) → (rt = false → es1 ++ ke cs1 ≠ []) → Z X 62 [some (aR t), some (aR e), some (aR cur)] [] w 3 35 := by
    intro w cur rt p es fp n1 es1 cs1 hH hcf hee hs hkl hz hDw hfp hpw hm hnee
    refine z_wf (fun hww => ?_)
    have lt := hwv.1 t (by have := hYv.1; omega)
    have kt : kd_ w t = 5 := by rw [(hkl t lt.1).1]; exact hYv.1
    have st := hs t lt.1 (fun z => ht5 (hH.1 _ z))
    have er : rv_ w t 2 = root := by rw [st.2.2.2]; exact eR
    have kc := hDw.1
    have hF1 := hDw.2.2.1
    have hsz := hF1.size
    rw [kx_len] at hsz
    have hsl := hF1.srt.len
    rw [kx_len] at hsl
    have fe : (rt = true ∨ rv_ w cur 2 ≠ 0 ∨ 2 ≤ cs1.length) → Z X 92 [some (aR t), some (aR e), some (aR cur)] [] w 3 35 := fun hne => by
      refine r_V ho dX5_take_92 (Nat.le_of_ble_eq_true rfl) (Nat.le_of_ble_eq_true rfl) ?_
      have hDr : TD w n1 rt p cur es1 cs1 := ⟨hDw.1, hDw.2.1, hDw.2.2.1, hDw.2.2.2.1, hDw.2.2.2.2.1, hDw.2.2.2.2.2.1, hne⟩
      exact fin w cur rt p es fp _ _ _ hH hee hs hkl hz hDr.tn hfp hpw hm
    refine z_aload_n ho dX5_take_62 rfl ?_
    refine z_aload_n ho dX5_take_63 rfl ?_
    refine gX5_12 ho dX5_take_64 kt ?_
    rw [er]
    refine z_acmp_eq (tgt := 92) ho dX5_take_67 (by decide) (fun c67 => ?_) (fun c67 => ?_)
    · refine fe (Or.inl ?_)
      rcases hH.2.1 with ⟨z, -⟩ | ⟨-, z⟩
      · exact z
      · exact absurd (c67 ▸ hcf) z
    · have hrf : rt = false := by
        rcases hH.2.1 with ⟨-, z⟩ | ⟨z, -⟩
        · exact absurd z c67
        · exact z
      have hne1 := hnee hrf
      refine z_aload_n ho dX5_take_70 rfl ?_
      refine gX5_61 ho dX5_take_71 kc ?_
      refine z_ifnonnull (tgt := 92) ho dX5_take_74 (by decide) (fun c74 => ?_) (fun c74 => ?_)
      · exact fe (Or.inr (Or.inl c74))
      · have e0 : es1 = [] := by
          rcases hDw.2.2.2.1 with ⟨-, z⟩ | ⟨z, -⟩
          · exact z
          · exact absurd c74 (z.ne0 hww)
        subst e0
        refine z_aload_n ho dX5_take_77 rfl ?_
        refine gX5_47 ho dX5_take_78 kc ?_
        refine gX5_81 ho dX5_take_81 hF1.isF ?_
        refine z_iconst ho dX5_take_84 ?_
        refine z_icmp_ne (tgt := 92) ho dX5_take_85 (by decide) (by rw [hsz]; unfold rng; omega) (by unfold rng; omega) (fun c85 => ?_) (fun c85 => ?_)
        · rw [hsz] at c85
          refine fe (Or.inr (Or.inr ?_))
          have : cs1 ≠ [] := fun z => hne1 (by rw [z]; rfl)
          have := List.length_pos_iff.mpr this
          omega
        · rw [hsz] at c85
          cases cs1 with
          | nil => simp at c85
          | cons c cs1 =>
            have hcs : cs1 = [] := List.eq_nil_of_length_eq_zero (by simp at c85; omega)
            subst hcs
            obtain ⟨m, hm1, hTm⟩ := (hDw.2.2.2.2.1 c (by simp)).node
            obtain ⟨es', cs', hTD', he', hf'⟩ := hTm.td
            refine z_aload_n ho dX5_take_88 rfl ?_
            refine kX5_88 ho hN (c_merge _ _ hDw hTD' hf') dX5_take_89 kc (by omega) (Nat.le_of_ble_eq_true rfl) (Nat.le_of_ble_eq_true rfl) (Nat.le_of_ble_eq_true rfl) (fun u89 h89 => ?_)
            obtain ⟨m1, m2, m3, m4, m5⟩ := h89
            refine r_V ho dX5_take_92 (Nat.le_of_ble_eq_true rfl) (Nat.le_of_ble_eq_true rfl) ?_
            have hcl := hDw.lt hww cur (by simp [fpT])
            refine fin _ cur rt p es fp _ _ _ hH hee (fun a h1 h2 => (hs a h1 h2).tr (m5 a (fun z => h2 (z ▸ hcf)) (fun z => ?_))) (fun a ha => ⟨(m4 a).1.trans (hkl a ha).1, (m4 a).2.trans (hkl a ha).2⟩) (by rw [m3]; exact hz) (by rw [hrf]; exact m1.tn) (fun a ha => hfp a (m2 a ha)) (fun z => by rw [hrf] at z; cases z) (fun x => ?_)
            · rcases hfp (rv_ w cur 0) (by simp [fpT]) with q | q
              · exact h2 (z ▸ q)
              · omega
            · rw [← hm x, ← he']
              simp [ke]
  have hEr := hDv.en0 e he0
  obtain ⟨d1, d2, d3⟩ := hDv.entry (e := 0) (rt' := true) (es1 := []) hwv (Or.inl ⟨rfl, rfl⟩) (Or.inl rfl)
  have kc := hDv.1
  have hF := hDv.2.2.1
  have hsz := hF.size
  rw [kx_len] at hsz
  have hsl := hF.srt.len
  rw [kx_len] at hsl
  have hxf : x2 ∈ fpT v x2 cs := by simp [fpT]
  have hndc : ∀ x ∈ ke cs, x ≠ e := fun x hx => by
    obtain ⟨-, -, -, A, B, hES, -⟩ := hHv
    rw [hES] at hnd
    have b1 := (List.nodup_append.mp (List.nodup_append.mp hnd).2.1).1
    exact fun z => (List.nodup_append.mp b1).2.2 e he0 x hx z.symm
  have hmem : ∀ x, x ∈ [] ++ ke cs ↔ x ∈ es0 ++ ke cs ∧ x ≠ e := fun x => by
    rw [hes0, ← her]
    simp only [List.nil_append, List.mem_append, List.mem_singleton]
    exact ⟨fun h => ⟨Or.inr h, hndc x h⟩, fun h => h.1.resolve_left h.2⟩
  have hF1 := d1.2.2.1
  have hsz1 := hF1.size
  rw [kx_len] at hsz1
  have self : (rt = true ∨ cs ≠ []) → Z X 62 [some (aR t), some (aR e), some (aR x2)] [] (wR_ v x2 2 0) 3 35 := fun hor =>
    endp (wR_ v x2 2 0) x2 rt p _ _ n' [] cs hHv hxf (by simp [he0]) (fun a h1 h2 => Sm.wR (fun z => h2 (z ▸ hxf))) (fun a _ => ⟨rfl, rfl⟩) (Nat.le_refl _) d1 (fun a ha => Or.inl (by rw [← d2]; exact ha)) (fun z => by rw [d3]; exact hHv.2.2.1 z) hmem (fun z => by
      rcases hor with q | q
      · rw [q] at z; cases z
      · have h1 := hDv.kids_le
        have h2 := List.length_pos_iff.mpr q
        intro y
        rw [List.nil_append] at y
        rw [y, List.length_nil] at h1
        omega)
  refine z_astore_n ho dX5_take_5 (Nat.le_of_ble_eq_true rfl) rfl ?_
  refine z_aload_n ho dX5_take_6 rfl ?_
  refine z_null ho dX5_take_7 ?_
  refine pX5_61 ho dX5_take_8 kc  ?_
  refine z_aload_n ho dX5_take_11 rfl ?_
  refine gX5_47 ho dX5_take_12 kc ?_
  refine gX5_81 ho dX5_take_15 hF1.isF ?_
  refine z_if_ne (tgt := 62) ho dX5_take_18 (by decide) (by rw [hsz1]; unfold rng; omega) (fun c18 => ?_) (fun c18 => ?_)
  · refine z_cu (cu' := 3) (su' := 35) (Nat.le_of_ble_eq_true rfl) (Nat.le_of_ble_eq_true rfl) ?_
    refine self (Or.inr (fun z => c18 ?_))
    rw [hsz1, z]; rfl
  · have hcs : cs = [] := List.eq_nil_of_length_eq_zero (by rw [hsz1] at c18; omega)
    have kt1 : kd_ (wR_ v x2 2 0) t = 5 := hYv.1
    have hwr : rng (iv_ v t 5) := by rcases hP2 with ⟨q, -⟩ | ⟨q, -⟩ <;> unfold rng <;> omega
    refine z_aload_n ho dX5_take_21 rfl ?_
    refine gX5_26 ho dX5_take_22 kt1 ?_
    refine z_if_le (tgt := 62) ho dX5_take_25 (by decide) hwr (fun c25 => ?_) (fun c25 => ?_)
    · refine z_cu (cu' := 3) (su' := 35) (Nat.le_of_ble_eq_true rfl) (Nat.le_of_ble_eq_true rfl) ?_
      refine self (Or.inl ?_)
      rcases hP2 with ⟨-, q⟩ | ⟨q, -⟩
      · exact q
      · exact absurd q (by have : iv_ v t 5 ≤ 0 := c25; omega)
    · have c25' : 0 < iv_ v t 5 := c25
      obtain ⟨n2, rt2, pp, pt, es2, c1, c, c2, q3, q4, q5, q6, q7, q8, q9⟩ : ∃ n2 rt2 p2 pt es2 c1 c c2, TD v n2 rt2 p2 pt es2 (c1 ++ c :: c2) ∧ Hy v root FP ES rt2 p2 pt (es2 ++ ke (c1 ++ c :: c2)) (fpT v pt (c1 ++ c :: c2)) ∧ rv_ v w3 (iv_ v t 5 - 1) = pt ∧ iv_ v w4 (iv_ v t 5 - 1) = c.1 ∧ c.2.1 = x2 ∧ c.2.2.1 = es0 ++ ke cs ∧ c.2.2.2 = fpT v x2 cs := by
        rcases hP2 with ⟨q, -⟩ | ⟨-, -, q⟩
        · omega
        · exact q
      have n3 : w3 ≠ x2 := fun z => by have := hYv.2.2.2.1; rw [z] at this; omega
      have kp := q3.1
      have hltp := q3.lt hwv
      have hcm : c ∈ c1 ++ c :: c2 := by simp
      have hxk : x2 ∈ kf_ (c1 ++ c :: c2) := mem_kf.mpr ⟨c, hcm, by rw [q9]; exact hxf⟩
      have hndp := q3.2.2.2.2.2.1
      unfold fpT at hndp
      obtain ⟨nd1, nd2⟩ := List.nodup_cons.mp hndp
      obtain ⟨nd3, nd4⟩ := List.nodup_cons.mp nd2
      obtain ⟨nd5, nd6, nd7⟩ := List.nodup_append.mp nd4
      have npx : pt ≠ x2 := fun z => nd1 (by rw [z]; simp [hxk])
      have hFp := q3.2.2.1
      obtain ⟨hFp1, hfp1⟩ := hFp.same (v := wR_ v x2 2 0) (fun a ha => Sm.wR (fun z => nd7 a ha x2 hxk z))
      have hcr := hFp.srt.2 (c.1, c.2.1) (mem_kx.mpr ⟨c, hcm, rfl⟩)
      simp only at hcr
      have e3 : rv_ (wR_ v x2 2 0) t 3 = w3 := by rw [rv_wR, if_neg (fun z => by have := hYv.1; rw [z.1] at this; omega)]; exact hYv.2.1
      have e4 : rv_ (wR_ v x2 2 0) t 4 = w4 := by rw [rv_wR, if_neg (fun z => by have := hYv.1; rw [z.1] at this; omega)]; exact hYv.2.2.1
      have e5 : rv_ (wR_ v x2 2 0) w3 (iv_ v t 5 - 1) = pt := by rw [rv_wR, if_neg (fun z => n3 z.1)]; exact q5
      have e6 : rv_ (wR_ v x2 2 0) pt 3 = rv_ v pt 3 := by rw [rv_wR, if_neg (fun z => npx z.1)]
      have e7 : iv_ (wR_ v x2 2 0) w4 (iv_ v t 5 - 1) = c.1 := q6
      have e8 : iv_ (wR_ v x2 2 0) t 5 = iv_ v t 5 := rfl
      have htk1 : Tk (wR_ v x2 2 0) (kx (c1 ++ c :: c2)) := fun x hx => q3.tk x hx
      have hroom : (kx (c1 ++ c :: c2)).length ≤ 40 := by
        rw [kx_len]
        have h1 := q3.kids_le
        obtain ⟨-, -, -, A', B', hES, -⟩ := q4
        have h2 : ES.length = A'.length + ((es2.length + (ke (c1 ++ c :: c2)).length) + B'.length) := by rw [hES]; simp only [List.length_append]
        omega
      refine z_aload_n ho dX5_take_28 rfl ?_
      refine gX5_18 ho dX5_take_29 kt1 ?_
      rw [e3]
      refine z_aload_n ho dX5_take_32 rfl ?_
      refine gX5_26 ho dX5_take_33 kt1 ?_
      rw [e8]
      refine z_iconst ho dX5_take_36 ?_
      refine z_isub ho dX5_take_37 ?_
      refine z_aald ho dX5_take_38 (by decide) (show kd_ (wR_ v x2 2 0) w3 = 105 from hYv.2.2.2.1) (by omega) (by rw [ln_wR, hYv.2.2.2.2.1]; omega) ?_
      rw [e5]
      refine z_astore_n ho dX5_take_39 (Nat.le_of_ble_eq_true rfl) rfl ?_
      refine z_aload_n ho dX5_take_40 rfl ?_
      refine z_aload_n ho dX5_take_41 rfl ?_
      refine gX5_47 ho dX5_take_42 (by exact kp) ?_
      rw [e6]
      refine z_aload_n ho dX5_take_45 rfl ?_
      refine gX5_22 ho dX5_take_46 kt1 ?_
      rw [e4]
      refine z_aload_n ho dX5_take_49 rfl ?_
      refine gX5_26 ho dX5_take_50 kt1 ?_
      rw [e8]
      refine z_iconst ho dX5_take_53 ?_
      refine z_isub ho dX5_take_54 ?_
      refine z_iald ho dX5_take_55 (show kd_ (wR_ v x2 2 0) w4 = 100 from hYv.2.2.2.2.2.1) (by omega) (by rw [ln_wR, hYv.2.2.2.2.2.2]; omega) ?_
      rw [e7]
      refine or_call (hFp1.k2) (fun hq cc => kX5_84_8 ho hN (c_F8_take _ _ hFp1 (by omega) (by omega) htk1 hq) dX5_take_56 hq (by omega) (Nat.le_of_ble_eq_true rfl) (Nat.le_of_ble_eq_true rfl) (Nat.le_of_ble_eq_true rfl) cc) (fun hq cc => kX5_84_16 ho hN (c_F16_take _ _ hFp1 (by omega) (by omega) htk1 ⟨(c.1, c.2.1), mem_kx.mpr ⟨c, hcm, rfl⟩, rfl⟩ hroom hq) dX5_take_56 hq (by omega) (Nat.le_of_ble_eq_true rfl) (Nat.le_of_ble_eq_true rfl) (Nat.le_of_ble_eq_true rfl) cc) (fun x56 u56 h56 => ?_)
      obtain ⟨p1, p2, p3⟩ := h56
      refine pX5_47 ho dX5_take_59 (by rw [(p3.2 pt (by rw [sz_wR]; exact hltp pt (by simp [fpT]))).1, kd_wR]; exact kp)  ?_
      refine z_cu (cu' := 3) (su' := 35) (Nat.le_of_ble_eq_true rfl) (Nat.le_of_ble_eq_true rfl) ?_
      have hsort := hFp.srt.1
      have edel : del c.1 (kx (c1 ++ c :: c2)) = kx (c1 ++ c2) := by
        rw [kx_app, kx_app, show kx (c :: c2) = [(c.1, c.2.1)] ++ kx c2 from rfl, del_app, del_app, del_one, if_pos rfl, List.nil_append]
        rw [kx_app, show kx (c :: c2) = (c.1, c.2.1) :: kx c2 from rfl] at hsort
        obtain ⟨-, s2, s3⟩ := List.pairwise_append.mp hsort
        have s4 := (List.pairwise_cons.mp s2).1
        congr 1
        · unfold del
          refine List.filter_eq_self.mpr (fun x hx => ?_)
          have := s3 x hx (c.1, c.2.1) (by simp)
          simp only at this
          simp; omega
        · unfold del
          refine List.filter_eq_self.mpr (fun x hx => ?_)
          have := s4 x hx
          simp only at this
          simp; omega
      rw [edel] at p1
      have hcl := hltp pt (by simp [fpT])
      have N : ∀ a, a < sz_ v → a ∉ fpF v (rv_ v pt 3) → a ≠ pt → a ≠ x2 → Sm v (wR_ u56 pt 3 x56) a := fun a z1 z2 z3 z4 => ((Sm.wR z4).tr ((p3.2 a z1).2.2 (fun q => z2 (by rw [← hfp1]; exact q)))).tr (Sm.wR z3)
      have ncf : pt ∉ fpF v (rv_ v pt 3) := fun z => nd1 (by simp [z])
      have scur : Sm v u56 pt := (Sm.wR npx).tr ((p3.2 pt hcl).2.2 (fun q => ncf (by rw [← hfp1]; exact q)))
      have kfe : kf_ (c1 ++ c :: c2) = kf_ c1 ++ (c.2.2.2 ++ kf_ c2) := by rw [kf_app]; rfl
      rw [kfe] at nd6
      obtain ⟨k1, k2, k3⟩ := List.nodup_append.mp nd6
      obtain ⟨k4, k5, k6⟩ := List.nodup_append.mp k2
      have hxc : x2 ∈ c.2.2.2 := by rw [q9]; exact hxf
      have kfN : ∀ a ∈ kf_ (c1 ++ c2), a ∈ kf_ (c1 ++ c :: c2) ∧ Sm v (wR_ u56 pt 3 x56) a := fun a ha => by
        have h1 : a ∈ kf_ (c1 ++ c :: c2) := by
          rw [kf_app] at ha
          rw [kfe]
          simp only [List.mem_append] at ha ⊢
          rcases ha with q | q
          · exact Or.inl q
          · exact Or.inr (Or.inr q)
        refine ⟨h1, N a (hltp a (by unfold fpT; simp [h1])) (fun z => nd7 a z a h1 rfl) (fun z => nd1 (by rw [z] at h1; simp [h1])) (fun z => ?_)⟩
        rw [kf_app] at ha
        rcases List.mem_append.mp ha with q | q
        · exact k3 a q x2 (by simp [hxc]) z
        · exact k6 x2 hxc a q z.symm
      have enw : ∀ x, En v x → En (wR_ u56 pt 3 x56) x ∧ tx (wR_ u56 pt 3 x56) x = tx v x := fun x hx => by
        have hl := hx.1.lt hwv
        have k5F := hFp.kinds
        have s1 := N x hl.1 (fun z => by have := k5F x z; rw [hx.2] at this; omega) (fun z => by rw [z] at hx; have := hx.2; omega) (fun z => by rw [z] at hx; have := hx.2; omega)
        have := hx.1.same s1 (N (x + 1) hl.2.1 (fun z => by have := k5F _ z; rw [hx.1.2.2.1] at this; omega) (fun z => by have := hx.1.2.2.1; rw [z] at this; omega) (fun z => by have := hx.1.2.2.1; rw [z] at this; omega))
        exact ⟨⟨this.1, by rw [s1.1]; exact hx.2⟩, this.2⟩
      have hCC := q3.2.2.2.2.1
      have hsame := p1.same (v := wR_ u56 pt 3 x56) (fun a ha => Sm.wR (fun z => by
        rcases p2 a ha with q | q
        · rw [hfp1, z] at q; exact ncf q
        · rw [sz_wR] at q; omega))
      have v2 : ∀ a ∈ fpF (wR_ u56 pt 3 x56) x56, a ∈ fpF v (rv_ v pt 3) ∨ sz_ v ≤ a := fun a ha => by
        rw [hsame.2] at ha
        rcases p2 a ha with q | q
        · left; rw [← hfp1]; exact q
        · exact Or.inr q
      have v3 : ∀ d ∈ c1 ++ c2, TT (wR_ u56 pt 3 x56) n2 (pp ++ pth v pt ++ [d.1]) d.2.1 d.2.2.1 d.2.2.2 := fun d hd => by
        have hdc : d ∈ c1 ++ c :: c2 := by simp at hd ⊢; rcases hd with q | q <;> simp [q]
        have := hCC d hdc
        exact TT.frame _ _ _ _ _ this (fun a ha => (kfN a (mem_kf.mpr ⟨d, hd, ha⟩)).2) (fun x hx => enw x ((TT.mem _ _ _ _ _ this).1 x hx).1)
      have v4 : (kf_ (c1 ++ c2)).Nodup := by
        rw [kf_app]
        exact List.nodup_append.mpr ⟨k1, k5, fun a ha b hb => k3 a ha b (by simp [hb])⟩
      obtain ⟨f1, f2, f3⟩ := q3.fan (w := wR_ u56 pt 3 x56) (m := n2) (r := x56) (M := sz_ v) (rt' := true) (D := c.2.2.2) (ds := c1 ++ c2) hltp (Nat.le_refl _) (fun a z1 z2 z3 z4 => N a (hltp a z1) z3 z2 (fun z => z4 (z ▸ hxc))) (by rw [kd_wR, scur.1]; exact kp) (by rw [rv_wR, if_neg (by omega), scur.2.2.2]) (by rw [iv_wR, scur.2.2.1]) (by rw [rv_wR, if_neg (by omega), scur.2.2.2]) (by rw [rv_wR, if_pos ⟨rfl, rfl⟩]) hsame.1 v2 (fun z => nd3 (by rw [kfe]; simp [z])) v3 v4 (fun a ha => Or.inl (kfN a ha).1) (fun x hx => enw x (q3.en0 x hx).1) (Or.inl rfl)
      have hES2 : (es2 ++ ke (c1 ++ c :: c2)).Nodup := by
        obtain ⟨-, -, -, A, B, hES, -⟩ := q4
        rw [hES] at hnd
        exact (List.nodup_append.mp (List.nodup_append.mp hnd).2.1).1
      have hce : c.2.2.1 = [e] := by rw [q8, hes0, hcs, ← her]; rfl
      have eke : ke (c1 ++ c :: c2) = ke c1 ++ ([e] ++ ke c2) := by rw [ke_app, show ke (c :: c2) = c.2.2.1 ++ ke c2 from rfl, hce]
      have hmem2 : ∀ x, x ∈ es2 ++ ke (c1 ++ c2) ↔ x ∈ es2 ++ ke (c1 ++ c :: c2) ∧ x ≠ e := fun x => by
        rw [eke] at hES2 ⊢
        rw [ke_app]
        obtain ⟨-, b1, b2⟩ := List.nodup_append.mp hES2
        obtain ⟨-, b3, b4⟩ := List.nodup_append.mp b1
        obtain ⟨-, -, b5⟩ := List.nodup_append.mp b3
        simp only [List.mem_append, List.mem_singleton]
        constructor
        · rintro (q | q | q)
          · exact ⟨Or.inl q, b2 x q e (by simp)⟩
          · exact ⟨Or.inr (Or.inl q), b4 x q e (by simp)⟩
          · exact ⟨Or.inr (Or.inr (Or.inr q)), fun z => b5 e (by simp) x q z.symm⟩
        · rintro ⟨q | q | q | q, q'⟩
          · exact Or.inl q
          · exact Or.inr (Or.inl q)
          · exact absurd q q'
          · exact Or.inr (Or.inr q)
      refine endp _ pt rt2 pp _ _ n2 es2 (c1 ++ c2) q4 (by simp [fpT]) (by rw [eke]; simp) (fun a h1 h2 => N a h1 (fun z => h2 (by unfold fpT; simp [z])) (fun z => h2 (by rw [z]; simp [fpT])) (fun z => h2 (by rw [z]; unfold fpT; simp [hxk]))) (fun a ha => ?_) (by rw [sz_wR]; exact p3.1) f1 f3 (fun z => by rw [f2]; exact q4.2.2.1 z) hmem2 (fun z y => ?_)
      · have q2 := p3.2 a ha
        exact ⟨by rw [kd_wR, q2.1]; rfl, by rw [ln_wR, q2.2.1]; rfl⟩
      · rcases q3.2.2.2.2.2.2 with x | x | x
        · rw [x] at z; cases z
        · rcases q3.2.2.2.1 with ⟨x1, -⟩ | ⟨-, -, x3⟩
          · exact x x1
          · rw [x3] at y; simp at y
        · have hle := kidsl_ (cs := c1 ++ c2) (fun d hd => (TT.mem _ _ _ _ _ (v3 d hd)).2.2.1)
          rw [(List.append_eq_nil_iff.mp y).2] at hle
          simp only [List.length_append, List.length_nil, List.length_cons] at hle x
          omega
