set_option maxRecDepth 100000
/-! ===== ByteTree.descend, get ===== -/
theorem TD.enk {u : Mem} {n t : Nat} {rt : Bool} {p : List Int} {es0 : List Nat} {cs : List Kid} (h : TD u n rt p t es0 cs) : ∀ c ∈ cs, ∀ e ∈ c.2.2.1, En u e ∧ ∃ s, oc u e = (p ++ pth u t) ++ c.1 :: s := fun c hcm e hce => by
  obtain ⟨h1, s, h2⟩ := (TT.mem _ _ _ _ _ (h.2.2.2.2.1 c hcm)).1 e hce
  exact ⟨h1, s, by rw [h2]; simp⟩
theorem TD.en0 {u : Mem} {n t : Nat} {rt : Bool} {p : List Int} {es0 : List Nat} {cs : List Kid} (h : TD u n rt p t es0 cs) : ∀ e ∈ es0, En u e ∧ oc u e = p ++ pth u t ∧ es0 = [rv_ u t 2] ∧ e = rv_ u t 2 := fun e hee => by
  rcases h.2.2.2.1 with ⟨-, rfl⟩ | ⟨h1, h2, rfl⟩
  · simp at hee
  · rw [List.mem_singleton.mp hee]; exact ⟨h1, h2, rfl, rfl⟩
theorem TD.ene {u : Mem} {n t : Nat} {rt : Bool} {p : List Int} {es0 : List Nat} {cs : List Kid} (h : TD u n rt p t es0 cs) : ∀ e ∈ es0 ++ ke cs, En u e ∧ ∃ s, oc u e = p ++ (pth u t ++ s) := fun e hee => by
  rcases List.mem_append.mp hee with z | z
  · obtain ⟨h1, h2, -⟩ := h.en0 e z
    exact ⟨h1, [], by rw [h2]; simp⟩
  · obtain ⟨c, hcm, hce⟩ := mem_ke.mp z
    obtain ⟨h1, s, h2⟩ := h.enk c hcm e hce
    exact ⟨h1, c.1 :: s, by rw [h2]; simp⟩
theorem TD.pick {u : Mem} {n t k : Nat} {rt : Bool} {p C : List Int} {b : Int} {es0 : List Nat} {cs : List Kid} (h : TD u n rt p t es0 cs) (hoc : oc u k = (p ++ pth u t) ++ b :: C) :
    (lk b (kx cs) = 0 ∧ (∀ c ∈ cs, c.1 ≠ b) ∧ ∀ x ∈ es0 ++ ke cs, tx u x ≠ tx u k) ∨ ∃ c1 c c2, cs = c1 ++ c :: c2 ∧ c.1 = b ∧ lk b (kx cs) = c.2.1 ∧ c.2.1 ≠ 0 ∧ ∀ x ∈ es0 ++ ke cs, tx u x = tx u k → x ∈ c.2.2.1 := by
  have hs := h.2.2.1.srt
  obtain ⟨c1, md, c2, hcs, g1, g2, g3⟩ := kid_cut hs b
  have n0 : ∀ x ∈ es0, tx u x ≠ tx u k := fun x hx z => by
    have h1 := (h.en0 x hx).2.1
    have h2 := oc_inj.mpr z
    rw [h1, hoc] at h2
    have := congrArg List.length h2
    simp at this
  have nk : ∀ c ∈ cs, c.1 ≠ b → ∀ x ∈ c.2.2.1, tx u x ≠ tx u k := fun c hcm hb x hx z => by
    obtain ⟨-, s, h1⟩ := h.enk c hcm x hx
    have h2 := oc_inj.mpr z
    rw [h1, hoc] at h2
    have := List.append_cancel_left h2
    simp at this
    exact hb this.1
  rcases g3 with ⟨rfl, hl⟩ | ⟨c, rfl, hc, hl⟩
  · have hne : ∀ c ∈ cs, c.1 ≠ b := fun c hcm => by
      rw [hcs] at hcm
      simp at hcm
      rcases hcm with q | q
      · have := g1 c q; omega
      · have := g2 c q; omega
    refine Or.inl ⟨hl, hne, fun x hx => ?_⟩
    rcases List.mem_append.mp hx with z | z
    · exact n0 x z
    · obtain ⟨c, hcm, hce⟩ := mem_ke.mp z
      exact nk c hcm (hne c hcm) x hce
  · refine Or.inr ⟨c1, c, c2, by rw [hcs]; simp, hc, hl, ?_, fun x hx hxk => ?_⟩
    · exact (hs.2 (c.1, c.2.1) (mem_kx.mpr ⟨c, by rw [hcs]; simp, rfl⟩)).2.2
    · rcases List.mem_append.mp hx with z | z
      · exact absurd hxk (n0 x z)
      · obtain ⟨d, hdm, hde⟩ := mem_ke.mp z
        rw [hcs] at hdm
        simp at hdm
        rcases hdm with q | q | q
        · exact absurd hxk (nk d (by rw [hcs]; simp [q]) (by have := g1 d q; omega) x hde)
        · rw [q] at hde; exact hde
        · exact absurd hxk (nk d (by rw [hcs]; simp [q]) (by have := g2 d q; omega) x hde)
theorem TD.here {u : Mem} {n t k : Nat} {rt : Bool} {p : List Int} {es0 : List Nat} {cs : List Kid} (h : TD u n rt p t es0 cs) (hoc : oc u k = p ++ pth u t) : ∀ x ∈ es0 ++ ke cs, tx u x = tx u k → x ∈ es0 := fun x hx hxk => by
  rcases List.mem_append.mp hx with z | z
  · exact z
  · obtain ⟨c, hcm, hce⟩ := mem_ke.mp z
    obtain ⟨-, s, h1⟩ := h.enk c hcm x hce
    have h2 := oc_inj.mpr hxk
    rw [h1, hoc] at h2
    have := congrArg List.length h2
    simp at this
theorem TD.off {u : Mem} {n t k : Nat} {rt : Bool} {p A B C : List Int} {b : Int} {es0 : List Nat} {cs : List Kid} (h : TD u n rt p t es0 cs) (hp : pth u t = A ++ b :: B) (hoc : oc u k = p ++ (A ++ C)) (hd : C = [] ∨ ∃ c C', C = c :: C' ∧ b ≠ c) : ∀ x ∈ es0 ++ ke cs, tx u x ≠ tx u k := fun x hx z => by
  obtain ⟨-, s, h1⟩ := h.ene x hx
  have h2 := oc_inj.mpr z
  rw [h1, hoc, hp] at h2
  have h3 := List.append_cancel_left h2
  rw [List.append_assoc] at h3
  have h4 := List.append_cancel_left h3
  rcases hd with rfl | ⟨c, C', rfl, hb⟩
  · simp at h4
  · simp at h4
    exact hb h4.1
def YC (u : Mem) (t w3 w4 : Nat) : Prop := kd_ u t = 5 ∧ rv_ u t 3 = w3 ∧ rv_ u t 4 = w4 ∧ kd_ u w3 = 105 ∧ ln_ u w3 = 18 ∧ kd_ u w4 = 100 ∧ ln_ u w4 = 18
/-- what descend changes -/
def Dw (t w3 w4 : Nat) (u v : Mem) : Prop := (∀ a, a ≠ t → a ≠ w3 → a ≠ w4 → Sm u v a) ∧ sz_ v = sz_ u ∧ (∀ a, kd_ v a = kd_ u a ∧ ln_ v a = ln_ u a) ∧ (∀ i, rv_ v t i = rv_ u t i) ∧ (∀ i, i ≠ 5 → iv_ v t i = iv_ u t i)
theorem Dw.rf (t w3 w4 : Nat) (u : Mem) : Dw t w3 w4 u u := ⟨fun a _ _ _ => Sm.rf u a, rfl, fun _ => ⟨rfl, rfl⟩, fun _ => rfl, fun _ _ => rfl⟩
theorem Dw.a {t w3 w4 : Nat} {u v : Mem} (h : Dw t w3 w4 u v) (x : Int) : Dw t w3 w4 u (wI_ v t 5 x) := ⟨fun a h1 h2 h3 => (h.1 a h1 h2 h3).tr (Sm.wI h1), h.2.1, h.2.2.1, h.2.2.2.1, fun i hi => by rw [iv_wI, if_neg (fun z => hi z.2)]; exact h.2.2.2.2 i hi⟩
theorem Dw.b {t w3 w4 : Nat} {u v : Mem} (h : Dw t w3 w4 u v) (hn : t ≠ w3) (i : Int) (x : Nat) : Dw t w3 w4 u (wR_ v w3 i x) := ⟨fun a h1 h2 h3 => (h.1 a h1 h2 h3).tr (Sm.wR h2), h.2.1, h.2.2.1, fun j => by rw [rv_wR, if_neg (fun z => hn z.1)]; exact h.2.2.2.1 j, h.2.2.2.2⟩
theorem Dw.c {t w3 w4 : Nat} {u v : Mem} (h : Dw t w3 w4 u v) (hn : t ≠ w4) (i x : Int) : Dw t w3 w4 u (wI_ v w4 i x) := ⟨fun a h1 h2 h3 => (h.1 a h1 h2 h3).tr (Sm.wI h3), h.2.1, h.2.2.1, h.2.2.2.1, fun j hj => by rw [iv_wI, if_neg (fun z => hn z.1)]; exact h.2.2.2.2 j hj⟩
theorem Dw.yc {t w3 w4 : Nat} {u v : Mem} (h : Dw t w3 w4 u v) (hY : YC u t w3 w4) : YC v t w3 w4 := by
  obtain ⟨a1, a2, a3, a4, a5, a6, a7⟩ := hY
  have hk := h.2.2.1
  exact ⟨by rw [(hk _).1]; exact a1, by rw [h.2.2.2.1]; exact a2, by rw [h.2.2.2.1]; exact a3, by rw [(hk _).1]; exact a4, by rw [(hk _).2]; exact a5, by rw [(hk _).1]; exact a6, by rw [(hk _).2]; exact a7⟩
theorem Dw.ky {t w3 w4 k : Nat} {u v : Mem} (h : Dw t w3 w4 u v) (hY : YC u t w3 w4) (hk : Ky u k) : Ky v k ∧ tx v k = tx u k := by
  obtain ⟨a1, a2, a3, a4, a5, a6, a7⟩ := hY
  have h1 := hk.kd
  have h2 := hk.2.2.1
  exact hk.same (h.1 k (fun z => by rw [z] at h1; omega) (fun z => by rw [z] at h1; omega) (fun z => by rw [z] at h1; omega)) (h.1 (k + 1) (fun z => by rw [z] at h2; omega) (fun z => by rw [z] at h2; omega) (fun z => by rw [z] at h2; omega))
theorem Dw.en {t w3 w4 e : Nat} {u v : Mem} (h : Dw t w3 w4 u v) (hY : YC u t w3 w4) (he : En u e) : En v e ∧ tx v e = tx u e := by
  have := h.ky hY he.1
  exact ⟨⟨this.1, by rw [(h.2.2.1 e).1]; exact he.2⟩, this.2⟩
theorem Dw.fr {t w3 w4 : Nat} {u v : Mem} (h : Dw t w3 w4 u v) : Fr (fun a _ => a = t ∨ a = w3 ∨ a = w4) u v := ⟨by rw [h.2.1]; exact Nat.le_refl _, fun a _ => ⟨(h.2.2.1 a).1, (h.2.2.1 a).2, fun q => h.1 a (fun z => q (Or.inl z)) (fun z => q (Or.inr (Or.inl z))) (fun z => q (Or.inr (Or.inr z)))⟩⟩
/-- where descend came from -/
def Plc (u v : Mem) (t w3 w4 root : Nat) (FP ES : List Nat) (rt : Bool) (r : Nat) (es fp : List Nat) : Prop :=
  (iv_ v t 5 = 0 ∧ rt = true) ∨ (0 < iv_ v t 5 ∧ rt = false ∧ ∃ n2 rt2 p2 pt es2 c1 c c2, TD u n2 rt2 p2 pt es2 (c1 ++ c :: c2) ∧ Hy u root FP ES rt2 p2 pt (es2 ++ ke (c1 ++ c :: c2)) (fpT u pt (c1 ++ c :: c2)) ∧ rv_ v w3 (iv_ v t 5 - 1) = pt ∧ iv_ v w4 (iv_ v t 5 - 1) = c.1 ∧ c.2.1 = r ∧ c.2.2.1 = es ∧ c.2.2.2 = fp)
theorem c_descend (l : Launch) (u : Mem) {t k w3 w4 n : Nat} {ES FP : List Nat} (hY : YC u t w3 w4) (hT : TN u (TT u n) true [] (rv_ u t 2) ES FP) (h3 : w3 ∉ FP) (h4 : w4 ∉ FP) (hp0 : pth u (rv_ u t 2) = []) (hk : Ky u k) :
    Mt_ l yX5_descend cX5_descend 5 (some (.object "KeyHall$Twig")) 2 0 0 [aR t, aR k] u (qR fun r v => Dw t w3 w4 u v ∧ ((r = 0 ∧ ∀ x ∈ ES, tx u x ≠ tx u k) ∨ ∃ n rt p es0 cs, TD u n rt p r es0 cs ∧ oc u k = p ++ pth u r ∧ Hy u (rv_ u t 2) FP ES rt p r (es0 ++ ke cs) (fpT u r cs) ∧ (∀ x ∈ ES, tx u x = tx u k → x ∈ es0) ∧ iv_ v t 5 ≤ 16 ∧ Plc u v t w3 w4 (rv_ u t 2) FP ES rt r (es0 ++ ke cs) (fpT u r cs))) := by
  refine Mt_of (by decide) (Nat.le_of_ble_eq_true rfl) (fun X ho hX hN hI => ?_)
  subst hX
  show Z X 0 [some (aR t), some (aR k), none, none, none] [] u 0 0
  refine z_wf (fun hw => ?_)
  obtain ⟨y1, y2, y3, y4, y5, y6, y7⟩ := hY
  have hY : YC u t w3 w4 := ⟨y1, y2, y3, y4, y5, y6, y7⟩
  have n3 : t ≠ w3 := fun z => by rw [← z] at y4; omega
  have n4 : t ≠ w4 := fun z => by rw [← z] at y6; omega
  have n34 : w3 ≠ w4 := fun z => by rw [← z] at y6; omega
  have hol := hk.oc_len
  have hk5 := (TR.mem hT).2.1
  have hEn := (TR.mem hT).1
  have ht5 : t ∉ FP := fun z => by have := hk5 t z; unfold K5 at this; omega
  have hFs : ∀ v, Dw t w3 w4 u v → ∀ a ∈ FP, Sm u v a := fun v D a ha => D.1 a (fun z => ht5 (z ▸ ha)) (fun z => h3 (z ▸ ha)) (fun z => h4 (z ▸ ha))
  refine z_aload_n ho dX5_descend_0 rfl ?_
  refine gX5_12 ho dX5_descend_1 y1 ?_
  refine z_astore_n ho dX5_descend_4 (Nat.le_of_ble_eq_true rfl) rfl ?_
  refine z_iconst ho dX5_descend_5 ?_
  refine z_istore_n ho dX5_descend_6 (Nat.le_of_ble_eq_true rfl) rfl ?_
  refine z_aload_n ho dX5_descend_7 rfl ?_
  refine z_iconst ho dX5_descend_8 ?_
  refine pX5_26 ho dX5_descend_9 y1  ?_
  have body : ∀ n : Nat, (∀ m : Nat, n = m + 1 → ∀ (cur : Nat) (rt : Bool) (p q : List Int) (es0 : List Nat) (cs : List Kid) (v : Mem) (tm : Option AV), TD u m rt p cur es0 cs → Hy u (rv_ u t 2) FP ES rt p cur (es0 ++ ke cs) (fpT u cur cs) → oc u k = p ++ q → (∀ x ∈ ES, tx u x = tx u k → x ∈ es0 ++ ke cs) → Dw t w3 w4 u v → 0 ≤ iv_ v t 5 → iv_ v t 5 ≤ p.length → Plc u v t w3 w4 (rv_ u t 2) FP ES rt cur (es0 ++ ke cs) (fpT u cur cs) →
      Z X 12 [some (aR t), some (aR k), some (aR cur), some (aI (p.length : Int)), tm] [] v 0 0) → ∀ (cur : Nat) (rt : Bool) (p q : List Int) (es0 : List Nat) (cs : List Kid) (v : Mem) (tm : Option AV), TD u n rt p cur es0 cs → Hy u (rv_ u t 2) FP ES rt p cur (es0 ++ ke cs) (fpT u cur cs) → oc u k = p ++ q → (∀ x ∈ ES, tx u x = tx u k → x ∈ es0 ++ ke cs) → Dw t w3 w4 u v → 0 ≤ iv_ v t 5 → iv_ v t 5 ≤ p.length → Plc u v t w3 w4 (rv_ u t 2) FP ES rt cur (es0 ++ ke cs) (fpT u cur cs) →
      Z X 12 [some (aR t), some (aR k), some (aR cur), some (aI (p.length : Int)), tm] [] v 0 0 := by
    intro n hrec cur rt p q es0 cs v tm hD hH ho' hin D w0 w1 hP
    have hcl : ∀ a ∈ fpT u cur cs, a ∈ FP := hH.1
    have kcur := hD.1
    have hcur0 := (hw.1 cur (by omega)).2
    have hYv := D.yc hY
    have hlen : (p.length : Int) + q.length = 2 * ((tx u k).length : Int) := by rw [← hol.1, ho']; simp
    have hl16 := hol.2
    rw [ho', List.length_append] at hl16
    have frm : ∀ v1, Dw t w3 w4 u v1 → TD v1 n rt p cur es0 cs ∧ fpT v1 cur cs = fpT u cur cs ∧ pth v1 cur = pth u cur := fun v1 D1 => hD.frame (fun a ha => hFs v1 D1 a (hcl a ha)) (fun e he => D1.en hY (hD.ene e he).1)
    refine z_aload_n ho dX5_descend_12 rfl ?_
    refine z_ifnull (tgt := 103) ho dX5_descend_13 (by decide) (fun c13 => ?_) (fun c13 => ?_)
    · exact absurd c13 hcur0
    · 
      refine z_aload_n ho dX5_descend_16 rfl ?_
      refine gX5_18 ho dX5_descend_17 hYv.1 ?_
      refine z_aload_n ho dX5_descend_20 rfl ?_
      refine gX5_26 ho dX5_descend_21 hYv.1 ?_
      refine z_aload_n ho dX5_descend_24 rfl ?_
      refine z_aast ho dX5_descend_25 (Or.inl ⟨rfl, rfl, rfl⟩) (show kd_ v (rv_ v t 3) = 105 by rw [hYv.2.1]; exact hYv.2.2.2.1) w0 (by rw [hYv.2.1, hYv.2.2.2.2.1]; omega) (Or.inr (by rw [(D.2.2.1 _).1]; exact kcur)) ?_
      rw [hYv.2.1]
      have D1 : Dw t w3 w4 u (wR_ v w3 (iv_ v t 5) cur) := D.b n3 _ _
      have i1 : iv_ (wR_ v w3 (iv_ v t 5) cur) t 5 = iv_ v t 5 := rfl
      have r1 : rv_ (wR_ v w3 (iv_ v t 5) cur) w3 (iv_ v t 5) = cur := by rw [rv_wR, if_pos ⟨rfl, rfl⟩]
      have hP1 : Plc u (wR_ v w3 (iv_ v t 5) cur) t w3 w4 (rv_ u t 2) FP ES rt cur (es0 ++ ke cs) (fpT u cur cs) := by
        rcases hP with ⟨q1, q2⟩ | ⟨q1, q2, n2, rt2, p2, pt, es2, c1, c, c2, q3, q4, q5, q6, q7⟩
        · exact Or.inl ⟨q1, q2⟩
        · refine Or.inr ⟨q1, q2, n2, rt2, p2, pt, es2, c1, c, c2, q3, q4, ?_, q6, q7⟩
          rw [i1, rv_wR, if_neg (by omega)]
          exact q5
      generalize wR_ v w3 (iv_ v t 5) cur = v1 at D1 i1 r1 hP1
      rw [← i1] at w0 w1 r1
      obtain ⟨hD1, hf1, hp1⟩ := frm v1 D1
      obtain ⟨hk1, htx1⟩ := D1.ky hY hk
      have hoc1 : oc v1 k = p ++ q := by unfold oc; rw [htx1]; exact ho'
      have hYv1 := D1.yc hY
      have n0 := hD1.2.1.2.2.1
      have n1 := hD1.2.1.2.2.2.1
      have hpl := pth_len n0
      refine z_aload_n ho dX5_descend_26 rfl ?_
      refine z_aload_n ho dX5_descend_27 rfl ?_
      refine z_iload_n ho dX5_descend_28 rfl ?_
      refine kX5_30 ho hN (c_common _ _ hD1.1 hD1.2.1 hk1 hoc1 rfl) dX5_descend_29 hD1.1 (by omega) (Nat.le_of_ble_eq_true rfl) (Nat.le_of_ble_eq_true rfl) (Nat.le_of_ble_eq_true rfl) (fun x29 u29 h29 => ?_)
      obtain ⟨rfl, A, B, C, hAB, hAC, rfl, hd⟩ := h29
      have hAl : (pth v1 cur).length = A.length + B.length := by rw [hAB]; simp
      have hCl : q.length = A.length + C.length := by rw [hAC]; simp
      rw [hp1] at hAB
      refine z_istore ho dX5_descend_32 (Nat.le_of_ble_eq_true rfl) rfl ?_
      refine z_iload_n ho dX5_descend_34 rfl ?_
      refine z_iload ho dX5_descend_35 rfl ?_
      refine z_iadd ho dX5_descend_37 ?_
      refine z_istore_n ho dX5_descend_38 (Nat.le_of_ble_eq_true rfl) rfl ?_
      refine z_iload ho dX5_descend_39 rfl ?_
      refine z_aload_n ho dX5_descend_41 rfl ?_
      refine gX5_34 ho dX5_descend_42 hD1.1 ?_
      refine z_icmp_ge (tgt := 50) ho dX5_descend_45 (by decide) (by unfold rng; omega) (by unfold rng; omega) (fun c45 => ?_) (fun c45 => ?_)
      · -- the whole path
        have hB : B = [] := List.eq_nil_of_length_eq_zero (by omega)
        subst hB
        rw [List.append_nil] at hAB
        have hoc : oc u k = (p ++ pth u cur) ++ C := by rw [ho', hAC, hAB]; simp
        rw [← htx1] at hlen
        refine z_iload_n ho dX5_descend_50 rfl ?_
        refine z_aload_n ho dX5_descend_51 rfl ?_
        refine kX5_37 ho hN (c_bytes _ _ hk1) dX5_descend_52 hk1.1 (by omega) (Nat.le_of_ble_eq_true rfl) (Nat.le_of_ble_eq_true rfl) (Nat.le_of_ble_eq_true rfl) (fun x52 u52 h52 => ?_)
        obtain ⟨rfl, rfl⟩ := h52
        refine z_icmp_ne (tgt := 60) ho dX5_descend_55 (by decide) (by unfold rng; omega) (by unfold rng; omega) (fun c55 => ?_) (fun c55 => ?_)
        · -- the key goes on
          cases C with
          | nil => simp at hCl; omega
          | cons b C =>
          have hat := hk.oc_at hoc
          rw [List.length_append] at hat
          have e1 : (p.length : Int) + (A.length : Int) = ((p.length + (pth u cur).length : Nat) : Int) := by rw [hAB]; omega
          refine z_aload_n ho dX5_descend_60 rfl ?_
          refine gX5_22 ho dX5_descend_61 hYv1.1 ?_
          refine z_aload_n ho dX5_descend_64 rfl ?_
          refine gX5_26 ho dX5_descend_65 hYv1.1 ?_
          refine z_aload_n ho dX5_descend_68 rfl ?_
          refine z_iload_n ho dX5_descend_69 rfl ?_
          refine kX5_43 ho hN (c_octet _ _ hk1 (by omega) (by rw [htx1, e1]; exact hat.2.1)) dX5_descend_70 hk1.1 (by omega) (Nat.le_of_ble_eq_true rfl) (Nat.le_of_ble_eq_true rfl) (Nat.le_of_ble_eq_true rfl) (fun x70 u70 h70 => ?_)
          obtain ⟨rfl, rfl⟩ := h70
          rw [htx1, e1, hat.1, ← e1, hYv1.2.2.1]
          refine z_iast ho dX5_descend_73 hYv1.2.2.2.2.2.1 w0 (by rw [hYv1.2.2.2.2.2.2]; omega) ?_
          refine z_aload_n ho dX5_descend_74 rfl ?_
          refine z_dup ho dX5_descend_75 rfl ?_
          refine gX5_26 ho dX5_descend_76 hYv1.1 ?_
          refine z_iconst ho dX5_descend_79 ?_
          refine z_iadd ho dX5_descend_80 ?_
          refine pX5_26 ho dX5_descend_81 hYv1.1  ?_
          have e5 : iv_ (wI_ v1 w4 (iv_ v1 t 5) b) t 5 = iv_ v1 t 5 := by rw [iv_wI, if_neg (fun z => n4 z.1)]
          rw [e5]
          have D2 : Dw t w3 w4 u (wI_ (wI_ v1 w4 (iv_ v1 t 5) b) t 5 (iv_ v1 t 5 + 1)) := (D1.c n4 _ _).a _
          have i2 : iv_ (wI_ (wI_ v1 w4 (iv_ v1 t 5) b) t 5 (iv_ v1 t 5 + 1)) t 5 = iv_ v1 t 5 + 1 := by rw [iv_wI, if_pos ⟨rfl, rfl⟩]
          have i3 : iv_ (wI_ (wI_ v1 w4 (iv_ v1 t 5) b) t 5 (iv_ v1 t 5 + 1)) w4 (iv_ v1 t 5) = b := by rw [iv_wI, if_neg (fun z => n4 z.1.symm), iv_wI, if_pos ⟨rfl, rfl⟩]
          have r2 : rv_ (wI_ (wI_ v1 w4 (iv_ v1 t 5) b) t 5 (iv_ v1 t 5 + 1)) w3 (iv_ v1 t 5) = cur := r1
          generalize wI_ (wI_ v1 w4 (iv_ v1 t 5) b) t 5 (iv_ v1 t 5 + 1) = v2 at D2 i2 i3 r2
          obtain ⟨hD2, hf2, hp2⟩ := frm v2 D2
          obtain ⟨hk2, htx2⟩ := D2.ky hY hk
          have hF2 := hD2.2.2.1
          refine z_aload_n ho dX5_descend_84 rfl ?_
          refine gX5_47 ho dX5_descend_85 hD2.1 ?_
          refine z_aload_n ho dX5_descend_88 rfl ?_
          refine z_iload_n ho dX5_descend_89 rfl ?_
          refine kX5_43 ho hN (c_octet _ _ hk2 (by omega) (by rw [htx2, e1]; exact hat.2.1)) dX5_descend_90 hk2.1 (by omega) (Nat.le_of_ble_eq_true rfl) (Nat.le_of_ble_eq_true rfl) (Nat.le_of_ble_eq_true rfl) (fun x90 u90 h90 => ?_)
          obtain ⟨rfl, rfl⟩ := h90
          rw [htx2, e1, hat.1, ← e1]
          refine or_call (hF2.k2) (fun hq cc => kX5_51_8 ho hN (c_G8_get _ _ hF2 (by omega) (by omega) hq) dX5_descend_93 hq (by omega) (Nat.le_of_ble_eq_true rfl) (Nat.le_of_ble_eq_true rfl) (Nat.le_of_ble_eq_true rfl) cc) (fun hq cc => kX5_51_16 ho hN (c_G16_get _ _ hF2 (by omega) (by omega) hq) dX5_descend_93 hq (by omega) (Nat.le_of_ble_eq_true rfl) (Nat.le_of_ble_eq_true rfl) (Nat.le_of_ble_eq_true rfl) cc) (fun x93 u93 h93 => ?_)
          obtain ⟨rfl, rfl⟩ := h93
          refine z_astore_n ho dX5_descend_96 (Nat.le_of_ble_eq_true rfl) rfl ?_
          refine z_iinc ho dX5_descend_97 rfl rfl ?_
          refine z_goto (tgt := 12) ho dX5_descend_100 (by decide) ?_
          rcases hD.pick hoc with ⟨g1, -, g2⟩ | ⟨c1, c, c2, hcs, hcb, hlk, hc0, hm⟩
          · rw [g1]
            refine z_aload_n ho dX5_descend_12 rfl ?_
            refine z_ifnull (tgt := 103) ho dX5_descend_13 (by decide) (fun c13 => ?_) (fun c13 => ?_)
            · 
              refine z_null ho dX5_descend_103 ?_
              refine r_R ho dX5_descend_104 (Nat.le_of_ble_eq_true rfl) (Nat.le_of_ble_eq_true rfl) ?_
              refine ⟨D2, Or.inl ⟨rfl, fun x hx hxk => g2 x (hin x hx hxk) hxk⟩⟩
            · exact absurd rfl c13
          · rw [hlk]
            subst hcs
            obtain ⟨m, hm1, hTm⟩ := (hD.2.2.2.2.1 c (by simp)).node
            obtain ⟨es', cs', hTD', he', hf'⟩ := hTm.td
            have hH' := hH.down hD hw
            rw [he', hf'] at hH'
            have hpp : ((p ++ pth u cur ++ [c.1]).length : Int) = (p.length : Int) + (A.length : Int) + 1 := by rw [List.length_append, List.length_append, hAB]; simp
            have := hrec m hm1 c.2.1 false (p ++ pth u cur ++ [c.1]) C es' cs' v2 (some (aI (A.length : Int))) hTD' hH' (by rw [hoc, hcb]; simp) (fun x hx hxk => by rw [← he']; exact hm x (hin x hx hxk) hxk) D2 (by omega) (by rw [hpp]; omega)
              (Or.inr ⟨by omega, rfl, n, rt, p, cur, es0, c1, c, c2, hD, hH, by rw [i2, show iv_ v1 t 5 + 1 - 1 = iv_ v1 t 5 by omega]; exact r2, by rw [i2, show iv_ v1 t 5 + 1 - 1 = iv_ v1 t 5 by omega, hcb]; exact i3, rfl, he', hf'⟩)
            rw [hpp] at this
            exact this
        · -- the key ends here
          have hC : C = [] := List.eq_nil_of_length_eq_zero (by omega)
          subst hC
          rw [List.append_nil] at hoc
          refine z_aload_n ho dX5_descend_58 rfl ?_
          refine r_R ho dX5_descend_59 (Nat.le_of_ble_eq_true rfl) (Nat.le_of_ble_eq_true rfl) ?_
          exact ⟨D1, Or.inr ⟨n, rt, p, es0, cs, hD, hoc, hH, fun x hx hxk => hD.here hoc x (hin x hx hxk) hxk, by omega, hP1⟩⟩
      · -- a part of the path
        cases B with
        | nil => simp at hAl; omega
        | cons b B =>
        refine z_null ho dX5_descend_48 ?_
        refine r_R ho dX5_descend_49 (Nat.le_of_ble_eq_true rfl) (Nat.le_of_ble_eq_true rfl) ?_
        refine ⟨D1, Or.inl ⟨rfl, fun x hx hxk => hD.off hAB (by rw [ho', hAC]) ?_ x (hin x hx hxk) hxk⟩⟩
        rcases hd with z | z | ⟨b', B', c', C', z1, z2, z3⟩
        · simp at z
        · exact Or.inl z
        · cases z1; exact Or.inr ⟨c', C', z2, z3⟩
  have key : ∀ (n cur : Nat) (rt : Bool) (p q : List Int) (es0 : List Nat) (cs : List Kid) (v : Mem) (tm : Option AV), TD u n rt p cur es0 cs → Hy u (rv_ u t 2) FP ES rt p cur (es0 ++ ke cs) (fpT u cur cs) → oc u k = p ++ q → (∀ x ∈ ES, tx u x = tx u k → x ∈ es0 ++ ke cs) → Dw t w3 w4 u v → 0 ≤ iv_ v t 5 → iv_ v t 5 ≤ p.length → Plc u v t w3 w4 (rv_ u t 2) FP ES rt cur (es0 ++ ke cs) (fpT u cur cs) →
      Z X 12 [some (aR t), some (aR k), some (aR cur), some (aI (p.length : Int)), tm] [] v 0 0 := by
    intro n
    induction n with
    | zero => exact body 0 (fun m h => by omega)
    | succ n ih => exact body (n + 1) (fun m h => by cases h; exact ih)
  obtain ⟨es0, cs, hTD, he, hf⟩ := hT.td
  refine key n _ true [] (oc u k) es0 cs _ none hTD ?_ rfl (fun x hx _ => by rw [← he]; exact hx) ((Dw.rf t w3 w4 u).a 0) ?_ ?_ ?_
  · rw [← he, ← hf]; exact Hy.top hp0
  · rw [iv_wI, if_pos ⟨rfl, rfl⟩]; decide
  · rw [iv_wI, if_pos ⟨rfl, rfl⟩]; decide
  · exact Or.inl ⟨by rw [iv_wI, if_pos ⟨rfl, rfl⟩], rfl⟩
