set_option maxRecDepth 100000
/-! ===== a twig's parts; a twig's place in the whole tree ===== -/
theorem nd_rep {X C C' Y : List Nat} {N : Nat} (h : (X ++ (C ++ Y)).Nodup) (h' : C'.Nodup) (hc : ∀ a ∈ C', a ∈ C ∨ N ≤ a) (hl : ∀ a ∈ X ++ (C ++ Y), a < N) : (X ++ (C' ++ Y)).Nodup := by
  simp only [List.nodup_append, List.mem_append] at h hl ⊢
  obtain ⟨h1, ⟨h2, h3, h4⟩, h5⟩ := h
  refine ⟨h1, ⟨h', h3, fun a ha b hb => ?_⟩, fun a ha b hb => ?_⟩
  · rcases hc a ha with q | q
    · exact h4 a q b hb
    · have := hl b (by simp [hb]); omega
  · rcases hb with hb | hb
    · rcases hc b hb with q | q
      · exact h5 a ha b (Or.inl q)
      · have := hl a (by simp [ha]); omega
    · exact h5 a ha b (Or.inr hb)
def fpT (u : Mem) (t : Nat) (cs : List Kid) : List Nat := t :: rv_ u t 0 :: (fpF u (rv_ u t 3) ++ kf_ cs)
def PA (u : Mem) (t : Nat) : Prop := kd_ u (rv_ u t 0) = 100 ∧ ln_ u (rv_ u t 0) = 16 ∧ 0 ≤ iv_ u t 1 ∧ iv_ u t 1 ≤ 16 ∧ ∀ x ∈ pth u t, 0 ≤ x ∧ x < 256
def TD (u : Mem) (n : Nat) (rt : Bool) (p : List Int) (t : Nat) (es0 : List Nat) (cs : List Kid) : Prop :=
  kd_ u t = 6 ∧ PA u t ∧ Fn u (rv_ u t 3) (kx cs) ∧ EnO u (rv_ u t 2) (p ++ pth u t) es0 ∧ (∀ c ∈ cs, TT u n (p ++ pth u t ++ [c.1]) c.2.1 c.2.2.1 c.2.2.2) ∧ (fpT u t cs).Nodup ∧ (rt = true ∨ rv_ u t 2 ≠ 0 ∨ 2 ≤ cs.length)
theorem TD.tn {u : Mem} {n t : Nat} {rt : Bool} {p : List Int} {es0 : List Nat} {cs : List Kid} (h : TD u n rt p t es0 cs) : TN u (TT u n) rt p t (es0 ++ ke cs) (fpT u t cs) := by
  obtain ⟨h1, h2, h3, h4, h5, h6, h7⟩ := h
  exact ⟨h1, h2, cs, es0, h3, h4, h5, rfl, rfl, h6, h7⟩
theorem TN.td {u : Mem} {n t : Nat} {rt : Bool} {p : List Int} {es fp : List Nat} (h : TN u (TT u n) rt p t es fp) : ∃ es0 cs, TD u n rt p t es0 cs ∧ es = es0 ++ ke cs ∧ fp = fpT u t cs := by
  obtain ⟨h1, h2, cs, es0, h3, h4, h5, h6, h7, h8, h9⟩ := h
  exact ⟨es0, cs, ⟨h1, h2, h3, h4, h5, by rw [h7] at h8; exact h8, h9⟩, h6, h7⟩
theorem TT.nd {u : Mem} {n t : Nat} {p : List Int} {es fp : List Nat} (h : TT u n p t es fp) : fp.Nodup := by
  obtain ⟨m, -, h⟩ := h.node
  obtain ⟨-, -, cs, es0, -, -, -, -, -, h8, -⟩ := h
  exact h8
theorem TD.k5 {u : Mem} {n t : Nat} {rt : Bool} {p : List Int} {es0 : List Nat} {cs : List Kid} (h : TD u n rt p t es0 cs) : ∀ a ∈ fpT u t cs, K5 (kd_ u a) := (TR.mem h.tn).2.1
theorem TD.lt {u : Mem} {n t : Nat} {rt : Bool} {p : List Int} {es0 : List Nat} {cs : List Kid} (h : TD u n rt p t es0 cs) (hw : Wf u) : ∀ a ∈ fpT u t cs, a < sz_ u := fun a ha => (hw.1 a (by have := h.k5 a ha; unfold K5 at this; omega)).1
theorem TD.frame {u u' : Mem} {n t : Nat} {rt : Bool} {p : List Int} {es0 : List Nat} {cs : List Kid} (h : TD u n rt p t es0 cs) (hf : ∀ a ∈ fpT u t cs, Sm u u' a) (he : ∀ e ∈ es0 ++ ke cs, En u' e ∧ tx u' e = tx u e) : TD u' n rt p t es0 cs ∧ fpT u' t cs = fpT u t cs ∧ pth u' t = pth u t := by
  obtain ⟨kt, ⟨kp, lp, n0, n1, hpx⟩, hF, hen, hc, hnd, hne⟩ := h
  have st := hf t (by simp [fpT])
  have sp := hf (rv_ u t 0) (by simp [fpT])
  have e0 : rv_ u' t 0 = rv_ u t 0 := st.2.2.2 0
  have e1 : iv_ u' t 1 = iv_ u t 1 := st.2.2.1 1
  have e2 : rv_ u' t 2 = rv_ u t 2 := st.2.2.2 2
  have e3 : rv_ u' t 3 = rv_ u t 3 := st.2.2.2 3
  have ep : pth u' t = pth u t := by
    unfold pth
    rw [e0, e1]
    exact seg_ext (fun j _ _ => sp.2.2.1 j)
  obtain ⟨hF', hfp'⟩ := hF.same (v := u') (fun a ha => hf a (by simp [fpT, ha]))
  have ef : fpT u' t cs = fpT u t cs := by unfold fpT; rw [e0, e3, hfp']
  refine ⟨⟨by rw [st.1]; exact kt, ⟨by rw [e0, sp.1]; exact kp, by rw [e0, sp.2.1]; exact lp, by rw [e1]; exact n0, by rw [e1]; exact n1, by rw [ep]; exact hpx⟩, by rw [e3]; exact hF', ?_, fun c hcm => ?_, by rw [ef]; exact hnd, by rw [e2]; exact hne⟩, ef, ep⟩
  · rw [e2, ep]
    rcases hen with h | ⟨h1, h2, rfl⟩
    · exact Or.inl h
    · have := he (rv_ u t 2) (by simp)
      exact Or.inr ⟨this.1, by unfold oc; rw [this.2]; exact h2, rfl⟩
  · rw [ep]
    exact TT.frame _ _ _ _ _ (hc c hcm) (fun a ha => hf a (by simp [fpT, mem_kf.mpr ⟨c, hcm, ha⟩])) (fun e h => he e (by simp [mem_ke.mpr ⟨c, hcm, h⟩]))
/-- a kid is another one now, at the same address -/
theorem TD.rep {u u' : Mem} {n n' t : Nat} {rt : Bool} {p : List Int} {es0 es' fp' : List Nat} {c1 c2 : List Kid} {c : Kid} (h : TD u n rt p t es0 (c1 ++ c :: c2)) (hlt : ∀ a ∈ fpT u t (c1 ++ c :: c2), a < sz_ u)
    (hs : ∀ a ∈ fpT u t (c1 ++ c :: c2), a ∉ c.2.2.2 → Sm u u' a) (hen' : ∀ e ∈ es0 ++ (ke c1 ++ ke c2), En u' e ∧ tx u' e = tx u e)
    (hT : TT u' n' (p ++ pth u t ++ [c.1]) c.2.1 es' fp') (hfp : ∀ a ∈ fp', a ∈ c.2.2.2 ∨ sz_ u ≤ a) :
    TD u' (max n n') rt p t es0 (c1 ++ (c.1, c.2.1, es', fp') :: c2) ∧ pth u' t = pth u t ∧ (∀ a ∈ fpT u' t (c1 ++ (c.1, c.2.1, es', fp') :: c2), a ∈ fpT u t (c1 ++ c :: c2) ∨ sz_ u ≤ a) := by
  obtain ⟨kt, ⟨kp, lp, n0, n1, hpx⟩, hF, hen, hc, hnd, hne⟩ := h
  have ekf : ∀ d : Kid, fpT u t (c1 ++ d :: c2) = (t :: rv_ u t 0 :: (fpF u (rv_ u t 3) ++ kf_ c1)) ++ (d.2.2.2 ++ kf_ c2) := fun d => by
    unfold fpT
    rw [kf_app, show kf_ (d :: c2) = d.2.2.2 ++ kf_ c2 from rfl]
    simp
  rw [ekf] at hnd hlt hs
  have hnd3 := (List.nodup_append.mp hnd).2.2
  have hnd4 := (List.nodup_append.mp (List.nodup_append.mp hnd).2.1).2.2
  have sX : ∀ a ∈ t :: rv_ u t 0 :: (fpF u (rv_ u t 3) ++ kf_ c1), Sm u u' a := fun a ha => hs a (List.mem_append_left _ ha) (fun z => hnd3 a ha a (List.mem_append_left _ z) rfl)
  have sY : ∀ a ∈ kf_ c2, Sm u u' a := fun a ha => hs a (List.mem_append_right _ (List.mem_append_right _ ha)) (fun z => hnd4 a z a ha rfl)
  have st := sX t (by simp)
  have sp := sX (rv_ u t 0) (by simp)
  have e0 : rv_ u' t 0 = rv_ u t 0 := st.2.2.2 0
  have e1 : iv_ u' t 1 = iv_ u t 1 := st.2.2.1 1
  have e2 : rv_ u' t 2 = rv_ u t 2 := st.2.2.2 2
  have e3 : rv_ u' t 3 = rv_ u t 3 := st.2.2.2 3
  have ep : pth u' t = pth u t := by
    unfold pth
    rw [e0, e1]
    exact seg_ext (fun j _ _ => sp.2.2.1 j)
  obtain ⟨hF', hfp'⟩ := hF.same (v := u') (fun a ha => sX a (by simp [ha]))
  have ex : kx (c1 ++ (c.1, c.2.1, es', fp') :: c2) = kx (c1 ++ c :: c2) := by unfold kx; simp
  have ef : fpT u' t (c1 ++ (c.1, c.2.1, es', fp') :: c2) = fpT u t (c1 ++ (c.1, c.2.1, es', fp') :: c2) := by unfold fpT; rw [e0, e3, hfp']
  refine ⟨⟨by rw [st.1]; exact kt, ⟨by rw [e0, sp.1]; exact kp, by rw [e0, sp.2.1]; exact lp, by rw [e1]; exact n0, by rw [e1]; exact n1, by rw [ep]; exact hpx⟩, by rw [e3, ex]; exact hF', ?_, fun d hd => ?_, ?_, ?_⟩, ep, ?_⟩
  · rw [e2, ep]
    rcases hen with h | ⟨h1, h2, rfl⟩
    · exact Or.inl h
    · have := hen' (rv_ u t 2) (by simp)
      exact Or.inr ⟨this.1, by unfold oc; rw [this.2]; exact h2, rfl⟩
  · rw [ep]
    rcases List.mem_append.mp hd with q | q
    · exact TT.mono _ _ _ _ _ _ (TT.frame _ _ _ _ _ (hc d (by simp [q])) (fun a ha => sX a (by simp [mem_kf.mpr ⟨d, q, ha⟩])) (fun e h => hen' e (by simp [mem_ke.mpr ⟨d, q, h⟩]))) (by omega)
    · rcases List.mem_cons.mp q with q | q
      · subst q
        exact TT.mono _ _ _ _ _ _ hT (by omega)
      · exact TT.mono _ _ _ _ _ _ (TT.frame _ _ _ _ _ (hc d (by simp [q])) (fun a ha => sY a (mem_kf.mpr ⟨d, q, ha⟩)) (fun e h => hen' e (by simp [mem_ke.mpr ⟨d, q, h⟩]))) (by omega)
  · rw [ef, ekf]
    exact nd_rep hnd hT.nd hfp hlt
  · rw [e2]
    rcases hne with q | q | q
    · exact Or.inl q
    · exact Or.inr (Or.inl q)
    · refine Or.inr (Or.inr ?_)
      simp at q ⊢
      exact q
  · rw [ef, ekf, ekf]
    intro a ha
    rcases List.mem_append.mp ha with q | q
    · exact Or.inl (List.mem_append_left _ q)
    · rcases List.mem_append.mp q with q | q
      · rcases hfp a q with z | z
        · exact Or.inl (List.mem_append_right _ (List.mem_append_left _ z))
        · exact Or.inr z
      · exact Or.inl (List.mem_append_right _ (List.mem_append_right _ q))
/-- the place of a twig in the whole tree: what is put there gives a whole tree -/
def Hy (u : Mem) (root : Nat) (FP ES : List Nat) (rt : Bool) (p : List Int) (t : Nat) (es fp : List Nat) : Prop :=
  (∀ a ∈ fp, a ∈ FP) ∧ ((rt = true ∧ t = root) ∨ (rt = false ∧ root ∉ fp)) ∧ (rt = true → pth u t = []) ∧ ∃ A B, ES = A ++ (es ++ B) ∧ ∀ u' n' es' fp', (∀ a ∈ FP, a ∉ fp → Sm u u' a) → (∀ e ∈ A ++ B, En u' e ∧ tx u' e = tx u e) → TN u' (TT u' n') rt p t es' fp' → (∀ a ∈ fp', a ∈ fp ∨ sz_ u ≤ a) → (rt = true → pth u' t = []) →
    ∃ n'' fp'', TN u' (TT u' n'') true [] root (A ++ (es' ++ B)) fp'' ∧ pth u' root = [] ∧ ∀ a ∈ fp'', a ∈ FP ∨ sz_ u ≤ a
theorem Hy.top {u : Mem} {root : Nat} {FP ES : List Nat} (h0 : pth u root = []) : Hy u root FP ES true [] root ES FP :=
  ⟨fun _ h => h, Or.inl ⟨rfl, rfl⟩, fun _ => h0, [], [], by simp, fun u' n' es' fp' _ _ hT hf hp => ⟨n', fp', by simpa using hT, hp rfl, hf⟩⟩
theorem Hy.down {u : Mem} {root n t : Nat} {FP ES : List Nat} {rt : Bool} {p : List Int} {es0 : List Nat} {c1 c2 : List Kid} {c : Kid} (h : TD u n rt p t es0 (c1 ++ c :: c2)) (hw : Wf u) (H : Hy u root FP ES rt p t (es0 ++ ke (c1 ++ c :: c2)) (fpT u t (c1 ++ c :: c2))) :
    Hy u root FP ES false (p ++ pth u t ++ [c.1]) c.2.1 c.2.2.1 c.2.2.2 := by
  obtain ⟨h1, hrt, hp0, A, B, hES, h2⟩ := H
  have hcf : ∀ a ∈ c.2.2.2, a ∈ fpT u t (c1 ++ c :: c2) := fun a ha => by
    unfold fpT
    simp [mem_kf.mpr ⟨c, (by simp : c ∈ c1 ++ c :: c2), ha⟩]
  have eke : ∀ d : Kid, ke (c1 ++ d :: c2) = ke c1 ++ (d.2.2.1 ++ ke c2) := fun d => by rw [ke_app]; rfl
  refine ⟨fun a ha => h1 a (hcf a ha), Or.inr ⟨rfl, fun z => ?_⟩, fun z => (by cases z), A ++ (es0 ++ ke c1), ke c2 ++ B, ?_, fun u' n' es' fp' hs hen hT hfp _ => ?_⟩
  · rcases hrt with ⟨-, rfl⟩ | ⟨-, q⟩
    · have hnd := h.2.2.2.2.2.1
      unfold fpT at hnd
      refine (List.nodup_cons.mp hnd).1 ?_
      simp [mem_kf.mpr ⟨c, (by simp : c ∈ c1 ++ c :: c2), z⟩]
    · exact q (hcf _ z)
  · rw [hES, eke]
    simp only [List.append_assoc]
  · obtain ⟨hT2, hp2, hf2⟩ := h.rep (n' := n' + 1) (h.lt hw) (fun a ha hna => hs a (h1 a ha) hna) (fun e hee => hen e (by
      simp only [List.mem_append] at hee ⊢
      rcases hee with q | q | q
      · exact Or.inl (Or.inr (Or.inl q))
      · exact Or.inl (Or.inr (Or.inr q))
      · exact Or.inr (Or.inl q))) hT hfp
    obtain ⟨n'', fp'', g1, g0, g2⟩ := h2 u' _ _ _ (fun a ha hna => hs a ha (fun z => hna (hcf a z))) (fun e hee => hen e (by
      simp only [List.mem_append] at hee ⊢
      rcases hee with q | q
      · exact Or.inl (Or.inl q)
      · exact Or.inr (Or.inr q))) hT2.tn hf2 (fun z => by rw [hp2]; exact hp0 z)
    refine ⟨n'', fp'', ?_, g0, g2⟩
    rw [eke] at g1
    simp only [List.append_assoc] at g1 ⊢
    exact g1
theorem Hy.frame {u v : Mem} {root t : Nat} {FP ES : List Nat} {rt : Bool} {p : List Int} {es fp : List Nat} (H : Hy u root FP ES rt p t es fp) (hs : ∀ a ∈ FP, Sm u v a) (he : ∀ e ∈ ES, En v e ∧ tx v e = tx u e) (hz : sz_ v = sz_ u) (hp : pth v t = pth u t) : Hy v root FP ES rt p t es fp := by
  obtain ⟨h1, hrt, hp0, A, B, hES, h2⟩ := H
  refine ⟨h1, hrt, fun z => (by rw [hp]; exact hp0 z), A, B, hES, fun u' n' es' fp' g1 g2 g3 g4 => ?_⟩
  rw [hz] at g4 ⊢
  refine h2 u' n' es' fp' (fun a ha hna => (hs a ha).tr (g1 a ha hna)) (fun e hee => ?_) g3 g4
  have hE : e ∈ ES := by
    rw [hES]
    simp only [List.mem_append] at hee ⊢
    rcases hee with q | q
    · exact Or.inl q
    · exact Or.inr (Or.inr q)
  exact ⟨(g2 e hee).1, by rw [(g2 e hee).2, (he e hE).2]⟩
