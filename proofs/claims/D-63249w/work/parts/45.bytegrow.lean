set_option maxRecDepth 100000
/-! ===== a twig with one more kid, with one less, with an entry ===== -/
theorem Fn.nd {u : Mem} {f : Nat} {xs : List (Int × Nat)} (h : Fn u f xs) : (fpF u f).Nodup := by
  have : kd_ u f ≠ kd_ u (rv_ u f 1) ∧ kd_ u f ≠ kd_ u (rv_ u f 2) ∧ kd_ u (rv_ u f 1) ≠ kd_ u (rv_ u f 2) := by
    rcases h with h | h
    · rw [h.1, h.2.1, h.2.2.1]; decide
    · rw [h.1, h.2.1, h.2.2.2.1]; decide
  unfold fpF
  simp only [List.nodup_cons, List.mem_cons, List.not_mem_nil, or_false, not_false_eq_true, List.nodup_nil, and_true]
  exact ⟨fun z => by rcases z with z | z; (· exact this.1 (by rw [← z])); exact this.2.1 (by rw [← z]), fun z => this.2.2 (by rw [← z])⟩
theorem kidsl_ {cs : List Kid} (h : ∀ c ∈ cs, c.2.2.1 ≠ []) : cs.length ≤ (ke cs).length := by
  induction cs with
  | nil => exact Nat.le_refl _
  | cons c cs ih =>
    have := ih (fun d hd => h d (List.mem_cons_of_mem _ hd))
    have h1 := List.length_pos_iff.mpr (h c List.mem_cons_self)
    show _ ≤ (c.2.2.1 ++ ke cs).length
    rw [List.length_append, List.length_cons]
    omega
theorem TD.kids_le {u : Mem} {n t : Nat} {rt : Bool} {p : List Int} {es0 : List Nat} {cs : List Kid} (h : TD u n rt p t es0 cs) : cs.length ≤ (ke cs).length := kidsl_ (fun c hc => (TT.mem _ _ _ _ _ (h.2.2.2.2.1 c hc)).2.2.1)
theorem TD.tk {u : Mem} {n t : Nat} {rt : Bool} {p : List Int} {es0 : List Nat} {cs : List Kid} (h : TD u n rt p t es0 cs) : Tk u (kx cs) := fun x hx => by
  obtain ⟨c, hc, rfl⟩ := mem_kx.mp hx
  exact (h.2.2.2.2.1 c hc).kd
/-- the kids of a twig are others now, its fan too -/
theorem TD.fan {u w : Mem} {n m t r M : Nat} {rt rt' : Bool} {p : List Int} {es0 D : List Nat} {cs ds : List Kid} (hD : TD u n rt p t es0 cs) (hlt : ∀ a ∈ fpT u t cs, a < sz_ u) (hM : sz_ u ≤ M)
    (s : ∀ a ∈ fpT u t cs, a ≠ t → a ∉ fpF u (rv_ u t 3) → a ∉ D → Sm u w a) (t1 : kd_ w t = 6) (t0 : rv_ w t 0 = rv_ u t 0) (ti : iv_ w t 1 = iv_ u t 1) (t2 : rv_ w t 2 = rv_ u t 2) (t3 : rv_ w t 3 = r)
    (hF : Fn w r (kx ds)) (hfr : ∀ a ∈ fpF w r, a ∈ fpF u (rv_ u t 3) ∨ M ≤ a) (hP : rv_ u t 0 ∉ D)
    (hds : ∀ c ∈ ds, TT w m (p ++ pth u t ++ [c.1]) c.2.1 c.2.2.1 c.2.2.2) (hnd : (kf_ ds).Nodup) (hdl : ∀ a ∈ kf_ ds, a ∈ kf_ cs ∨ (sz_ u ≤ a ∧ a < M)) (hen : ∀ e ∈ es0, En w e ∧ tx w e = tx u e)
    (hne : rt' = true ∨ rv_ u t 2 ≠ 0 ∨ 2 ≤ ds.length) : TD w m rt' p t es0 ds ∧ pth w t = pth u t ∧ ∀ a ∈ fpT w t ds, a ∈ fpT u t cs ∨ sz_ u ≤ a := by
  obtain ⟨kt, ⟨kp, lp, n0, n1, hpx⟩, hFu, he, hc, hndu, -⟩ := hD
  have hndu' := hndu
  unfold fpT at hndu'
  obtain ⟨nd1, nd2⟩ := List.nodup_cons.mp hndu'
  obtain ⟨nd3, nd4⟩ := List.nodup_cons.mp nd2
  obtain ⟨nd5, nd6, nd7⟩ := List.nodup_append.mp nd4
  have sp := s (rv_ u t 0) (by simp [fpT]) (fun z => by rw [z] at kp; omega) (fun z => nd3 (by simp [z])) hP
  have ep : pth w t = pth u t := by
    unfold pth
    rw [t0, ti]
    exact seg_ext (fun j _ _ => sp.2.2.1 j)
  have hltF : ∀ a ∈ fpF u (rv_ u t 3), a < sz_ u := fun a ha => hlt a (by unfold fpT; simp [ha])
  have hltK : ∀ a ∈ kf_ cs, a < sz_ u := fun a ha => hlt a (by unfold fpT; simp [ha])
  refine ⟨⟨t1, ⟨by rw [t0, sp.1]; exact kp, by rw [t0, sp.2.1]; exact lp, by rw [ti]; exact n0, by rw [ti]; exact n1, by rw [ep]; exact hpx⟩, by rw [t3]; exact hF, ?_, fun c hcm => by rw [ep]; exact hds c hcm, ?_, by rw [t2]; exact hne⟩, ep, fun a ha => ?_⟩
  · rw [t2, ep]
    rcases he with z | ⟨z1, z2, z3⟩
    · exact Or.inl z
    · have := hen (rv_ u t 2) (by rw [z3]; simp)
      exact Or.inr ⟨this.1, by unfold oc; rw [this.2]; exact z2, z3⟩
  · unfold fpT
    rw [t0, t3]
    have ht := hlt t (by simp [fpT])
    have hp := hlt (rv_ u t 0) (by simp [fpT])
    have big : ∀ a, a < sz_ u → a ∉ fpF u (rv_ u t 3) ++ kf_ cs → a ∉ fpF w r ++ kf_ ds := fun a h1 h2 h3 => by
      rcases List.mem_append.mp h3 with z | z
      · rcases hfr a z with y | y
        · exact h2 (List.mem_append_left _ y)
        · omega
      · rcases hdl a z with y | y
        · exact h2 (List.mem_append_right _ y)
        · omega
    refine List.nodup_cons.mpr ⟨fun z => ?_, List.nodup_cons.mpr ⟨big _ hp nd3, List.nodup_append.mpr ⟨hF.nd, hnd, fun a ha b hb z => ?_⟩⟩⟩
    · rcases List.mem_cons.mp z with q | q
      · exact nd1 (by simp [q.symm ▸ (rfl : t = t)]; exact Or.inl q)
      · exact big t ht (fun y => nd1 (List.mem_cons_of_mem _ y)) q
    · subst z
      rcases hfr a ha with y | y
      · rcases hdl a hb with x | x
        · exact nd7 a y a x rfl
        · have := hltF a y; omega
      · rcases hdl a hb with x | x
        · have := hltK a x; omega
        · omega
  · unfold fpT at ha ⊢
    rw [t0, t3] at ha
    simp only [List.mem_cons, List.mem_append] at ha ⊢
    rcases ha with q | q | q | q
    · exact Or.inl (Or.inl q)
    · exact Or.inl (Or.inr (Or.inl q))
    · rcases hfr a q with y | y
      · exact Or.inl (Or.inr (Or.inr (Or.inl y)))
      · exact Or.inr (by omega)
    · rcases hdl a q with y | y
      · exact Or.inl (Or.inr (Or.inr (Or.inr y)))
      · exact Or.inr y.1
/-- the entry of a twig is another one now -/
theorem TD.entry {u : Mem} {n t e : Nat} {rt rt' : Bool} {p : List Int} {es0 es1 : List Nat} {cs : List Kid} (hD : TD u n rt p t es0 cs) (hw : Wf u) (he : EnO u e (p ++ pth u t) es1) (hne : rt' = true ∨ e ≠ 0 ∨ 2 ≤ cs.length) :
    TD (wR_ u t 2 e) n rt' p t es1 cs ∧ fpT (wR_ u t 2 e) t cs = fpT u t cs ∧ pth (wR_ u t 2 e) t = pth u t := by
  have hene := hD.ene
  obtain ⟨kt, ⟨kp, lp, n0, n1, hpx⟩, hFu, he0, hc, hndu, -⟩ := hD
  have H : ∀ a, a ≠ t → Sm u (wR_ u t 2 e) a := fun a ha => Sm.wR ha
  have r0 : rv_ (wR_ u t 2 e) t 0 = rv_ u t 0 := by rw [rv_wR, if_neg (by omega)]
  have r3 : rv_ (wR_ u t 2 e) t 3 = rv_ u t 3 := by rw [rv_wR, if_neg (by omega)]
  have r2 : rv_ (wR_ u t 2 e) t 2 = e := by rw [rv_wR, if_pos ⟨rfl, rfl⟩]
  have ep : pth (wR_ u t 2 e) t = pth u t := by unfold pth; rw [r0]; rfl
  have hndu' := hndu
  unfold fpT at hndu'
  obtain ⟨nd1, nd2⟩ := List.nodup_cons.mp hndu'
  have ne : ∀ a ∈ fpF u (rv_ u t 3) ++ kf_ cs, a ≠ t := fun a ha z => nd1 (List.mem_cons_of_mem _ (by have := ha; rw [z] at this; exact this))
  obtain ⟨hF', hf'⟩ := hFu.same (v := wR_ u t 2 e) (fun a ha => H a (ne a (by simp [ha])))
  have hen : ∀ x, En u x → En (wR_ u t 2 e) x ∧ tx (wR_ u t 2 e) x = tx u x := fun x hx => by
    have s1 := H x (fun z => by rw [z] at hx; have := hx.2; omega)
    have := hx.1.same s1 (H (x + 1) (fun z => by have := hx.1.2.2.1; rw [z] at this; omega))
    exact ⟨⟨this.1, by rw [s1.1]; exact hx.2⟩, this.2⟩
  have ef : fpT (wR_ u t 2 e) t cs = fpT u t cs := by unfold fpT; rw [r0, r3, hf']
  refine ⟨⟨kt, ⟨by rw [r0]; exact kp, by rw [r0]; exact lp, n0, n1, by rw [ep]; exact hpx⟩, by rw [r3]; exact hF', ?_, fun c hcm => ?_, by rw [ef]; exact hndu, by rw [r2]; exact hne⟩, ef, ep⟩
  · rw [r2, ep]
    rcases he with z | ⟨z1, z2, z3⟩
    · exact Or.inl z
    · have := hen e z1
      exact Or.inr ⟨this.1, by unfold oc; rw [this.2]; exact z2, z3⟩
  · rw [ep]
    exact TT.frame _ _ _ _ _ (hc c hcm) (fun a ha => H a (ne a (by simp [mem_kf.mpr ⟨c, hcm, ha⟩]))) (fun x hx => hen x ((TT.mem _ _ _ _ _ (hc c hcm)).1 x hx).1)
theorem TR.fit {u : Mem} {n t : Nat} {rt : Bool} {p : List Int} {es fp : List Nat} (h : TN u (TT u n) rt p t es fp) : TN u (TT u 16) rt p t es fp :=
  TN.mono h (fun p' t es fp hp h => TT.mono _ _ _ _ _ _ (TT.fit _ _ _ _ _ h).1 (by omega))
/-! ===== the tree of bytes ===== -/
def YT (G : Nat → Prop) (u : Mem) (t : Nat) (S : List Nat) : Prop := ∃ w3 w4 n ES FP, YC u t w3 w4 ∧ TN u (TT u n) true [] (rv_ u t 2) ES FP ∧ pth u (rv_ u t 2) = [] ∧ w3 ∉ FP ∧ w4 ∉ FP ∧ (∀ x, x ∈ S ↔ x ∈ ES) ∧ (∀ a, (a ∈ FP ∨ a = w3 ∨ a = w4) → ¬ G a)
def Q5 (G : Nat → Prop) (t : Nat) (a K : Nat) : Prop := (K5 K ∧ ¬ G a) ∨ a = t
theorem c_YT_get (l : Launch) (u : Mem) {G : Nat → Prop} {t k : Nat} {S : List Nat} (hT : YT G u t S) (hk : Ky u k) : Mt_ l yX5_get cX5_get 3 (some (.object "KeyHall$Entry")) 3 0 0 [aR t, aR k] u (qR fun r v => qGet u S k r ∧ YT G v t S ∧ Fr (Q5 G t) u v ∧ sz_ v = sz_ u ∧ ∀ i, i ≠ 5 → iv_ v t i = iv_ u t i) := by
  obtain ⟨w3, w4, n, ES, FP, hY, hTN, hp0, h3, h4, hS, hG⟩ := hT
  refine Mt_of (by decide) (Nat.le_of_ble_eq_true rfl) (fun X ho hX hN hI => ?_)
  subst hX
  show Z X 0 [some (aR t), some (aR k), none] [] u 0 0
  refine z_wf (fun hw => ?_)
  refine z_aload_n ho dX5_get_0 rfl ?_
  refine z_aload_n ho dX5_get_1 rfl ?_
  refine kX5_57 ho hN (c_descend _ _ hY hTN h3 h4 hp0 hk) dX5_get_2 hY.1 (Nat.le_of_ble_eq_true rfl) (Nat.le_of_ble_eq_true rfl) (Nat.le_of_ble_eq_true rfl) (Nat.le_of_ble_eq_true rfl) (fun x2 u2 h2 => ?_)
  obtain ⟨D, hres⟩ := h2
  have hk5 := (TR.mem hTN).2.1
  have hEn := (TR.mem hTN).1
  have y1 := hY.1
  have ht5 : t ∉ FP := fun z => by have := hk5 t z; unfold K5 at this; omega
  have hFs : ∀ a ∈ FP, Sm u u2 a := fun a ha => D.1 a (fun z => ht5 (z ▸ ha)) (fun z => h3 (z ▸ ha)) (fun z => h4 (z ▸ ha))
  have e2 : rv_ u2 t 2 = rv_ u t 2 := D.2.2.2.1 2
  have post : YT G u2 t S ∧ Fr (Q5 G t) u u2 ∧ sz_ u2 = sz_ u ∧ ∀ i, i ≠ 5 → iv_ u2 t i = iv_ u t i := by
    have hTN2 : TN u2 (TT u2 n) true [] (rv_ u2 t 2) ES FP := by
      rw [e2]
      exact TN.frame (R' := TT u2 n) hTN hFs (fun e he => D.en hY (hEn e he).1) (TT.frame n)
    refine ⟨⟨w3, w4, n, ES, FP, D.yc hY, hTN2, ?_, h3, h4, hS, hG⟩, ?_, D.2.1, D.2.2.2.2⟩
    · rw [e2]
      obtain ⟨es0, cs, hD, he, hf⟩ := hTN.td
      rw [(hD.frame (u' := u2) (fun a ha => hFs a (by rw [hf]; exact ha)) (fun e h => D.en hY (hD.ene e h).1)).2.2]
      exact hp0
    · refine ⟨D.fr.1, fun a ha => ⟨(D.2.2.1 a).1, (D.2.2.1 a).2, fun q => D.1 a (fun z => q (Or.inr z)) (fun z => q (Or.inl ⟨?_, hG a (Or.inr (Or.inl z))⟩)) (fun z => q (Or.inl ⟨?_, hG a (Or.inr (Or.inr z))⟩))⟩⟩
      · rw [z, hY.2.2.2.1]; unfold K5; decide
      · rw [z, hY.2.2.2.2.2.1]; unfold K5; decide
  rcases hres with ⟨hr0, hno⟩ | ⟨n', rt, p, es0, cs, hD, hoc, hH, hm, -, -⟩
  · 
    refine z_astore_n ho dX5_get_5 (Nat.le_of_ble_eq_true rfl) rfl ?_
    refine z_aload_n ho dX5_get_6 rfl ?_
    refine z_ifnonnull (tgt := 14) ho dX5_get_7 (by decide) (fun c7 => ?_) (fun c7 => ?_)
    · exact absurd hr0 c7
    · 
      refine z_null ho dX5_get_10 ?_
      refine z_goto (tgt := 18) ho dX5_get_11 (by decide) ?_
      refine r_R ho dX5_get_18 (Nat.le_of_ble_eq_true rfl) (Nat.le_of_ble_eq_true rfl) ?_
      exact ⟨Or.inl ⟨rfl, fun e he => hno e ((hS e).mp he)⟩, post⟩
  · have kx2 := hD.1
    have hx0 := (hw.1 x2 (by omega)).2
    have sx := hFs x2 (hH.1 x2 (by simp [fpT]))
    refine z_astore_n ho dX5_get_5 (Nat.le_of_ble_eq_true rfl) rfl ?_
    refine z_aload_n ho dX5_get_6 rfl ?_
    refine z_ifnonnull (tgt := 14) ho dX5_get_7 (by decide) (fun c7 => ?_) (fun c7 => ?_)
    · 
      refine z_aload_n ho dX5_get_14 rfl ?_
      refine gX5_61 ho dX5_get_15 (by rw [sx.1]; exact kx2) ?_
      refine r_R ho dX5_get_18 (Nat.le_of_ble_eq_true rfl) (Nat.le_of_ble_eq_true rfl) ?_
      refine ⟨?_, post⟩
      rw [sx.2.2.2]
      rcases hD.2.2.2.1 with ⟨z1, z2⟩ | ⟨z1, z2, z3⟩
      · rw [z1]
        exact Or.inl ⟨rfl, fun e he hek => by have := hm e ((hS e).mp he) hek; rw [z2] at this; simp at this⟩
      · refine Or.inr ⟨(hS _).mpr ?_, oc_inj.mp (z2.trans hoc.symm)⟩
        obtain ⟨-, -, -, A, B, hES, -⟩ := hH
        rw [hES, z3]; simp
    · exact absurd c7 hx0
theorem c_YT_above (l : Launch) (u : Mem) {G : Nat → Prop} {t k : Nat} {S : List Nat} {st : Int} (hT : YT G u t S) (hc : iv_ u t 0 = S.length) (hk : k = 0 ∨ Ky u k) (hst : st = 0 ∨ st = 1) (hS64 : S.length ≤ 64) : Mt_ l yX5_above cX5_above 3 (some (.object "KeyHall$Entry")) 21 0 0 [aR t, aR k, aI st] u (qR fun r u' => u = u' ∧ qAb u S k st r) := by
  obtain ⟨w3, w4, n, ES, FP, hY, hTN, hp0, h3, h4, hS, hG⟩ := hT
  have hTN := TR.fit hTN
  have y1 := hY.1
  have hso := TR.sorted hTN
  have hr6 : kd_ u (rv_ u t 2) = 6 := hTN.1
  refine Mt_of (by decide) (Nat.le_of_ble_eq_true rfl) (fun X ho hX hN hI => ?_)
  subst hX
  show Z X 0 [some (aR t), some (aR k), some (aI st)] [] u 0 0
  refine z_wf (fun hw => ?_)
  refine z_aload_n ho dX5_above_0 rfl ?_
  refine gX5_114 ho dX5_above_1 y1 ?_
  refine z_if_ne (tgt := 9) ho dX5_above_4 (by decide) (by rw [hc]; unfold rng; omega) (fun c4 => ?_) (fun c4 => ?_)
  · have hne : ES ≠ [] := fun z => c4 (by
      have : S = [] := List.eq_nil_iff_forall_not_mem.mpr (fun x hx => by have := (hS x).mp hx; rw [z] at this; simp at this)
      rw [hc, this]; rfl)
    refine z_aload_n ho dX5_above_9 rfl ?_
    refine z_ifnonnull (tgt := 23) ho dX5_above_10 (by decide) (fun c10 => ?_) (fun c10 => ?_)
    · have hk : Ky u k := hk.resolve_left c10
      refine z_aload_n ho dX5_above_23 rfl ?_
      refine gX5_12 ho dX5_above_24 y1 ?_
      refine z_aload_n ho dX5_above_27 rfl ?_
      refine z_iconst ho dX5_above_28 ?_
      refine z_iload_n ho dX5_above_29 rfl ?_
      refine kX5_101 ho hN (c_Y_above_2 _ _ hk hst 16 _ _ [] (oc u k) _ _ 0 hTN hne rfl rfl) dX5_above_30 (by omega) (Nat.le_of_ble_eq_true rfl) (Nat.le_of_ble_eq_true rfl) (Nat.le_of_ble_eq_true rfl) (fun x30 u30 h30 => ?_)
      obtain ⟨rfl, hab⟩ := h30
      refine r_R ho dX5_above_33 (Nat.le_of_ble_eq_true rfl) (Nat.le_of_ble_eq_true rfl) ?_
      exact ⟨rfl, hab.qAb hS hso⟩
    · subst c10
      refine z_aload_n ho dX5_above_13 rfl ?_
      refine gX5_12 ho dX5_above_14 y1 ?_
      refine kX5_94 ho hN (c_T_first _ _ hTN hne) dX5_above_17 hr6 (by omega) (Nat.le_of_ble_eq_true rfl) (Nat.le_of_ble_eq_true rfl) (Nat.le_of_ble_eq_true rfl) (fun x17 u17 h17 => ?_)
      obtain ⟨rfl, hh⟩ := h17
      refine z_goto (tgt := 33) ho dX5_above_20 (by decide) ?_
      refine r_R ho dX5_above_33 (Nat.le_of_ble_eq_true rfl) (Nat.le_of_ble_eq_true rfl) ?_
      have := (Abv.all (u := u) (k := 0) (st := st) (es := ES) (fun x _ => Or.inl rfl)).qAb hS hso
      rw [hh] at this
      exact ⟨rfl, this⟩
  · have : S = [] := List.eq_nil_of_length_eq_zero (by omega)
    refine z_null ho dX5_above_7 ?_
    refine r_R ho dX5_above_8 (Nat.le_of_ble_eq_true rfl) (Nat.le_of_ble_eq_true rfl) ?_
    exact ⟨rfl, Or.inl ⟨rfl, fun e he => by rw [this] at he; simp at he⟩⟩
theorem c_YT_below (l : Launch) (u : Mem) {G : Nat → Prop} {t k : Nat} {S : List Nat} {st : Int} (hT : YT G u t S) (hc : iv_ u t 0 = S.length) (hk : k = 0 ∨ Ky u k) (hst : st = 0 ∨ st = 1) (hS64 : S.length ≤ 64) : Mt_ l yX5_below cX5_below 3 (some (.object "KeyHall$Entry")) 21 0 0 [aR t, aR k, aI st] u (qR fun r u' => u = u' ∧ qBe u S k st r) := by
  obtain ⟨w3, w4, n, ES, FP, hY, hTN, hp0, h3, h4, hS, hG⟩ := hT
  have hTN := TR.fit hTN
  have y1 := hY.1
  have hso := TR.sorted hTN
  have hr6 : kd_ u (rv_ u t 2) = 6 := hTN.1
  refine Mt_of (by decide) (Nat.le_of_ble_eq_true rfl) (fun X ho hX hN hI => ?_)
  subst hX
  show Z X 0 [some (aR t), some (aR k), some (aI st)] [] u 0 0
  refine z_wf (fun hw => ?_)
  refine z_aload_n ho dX5_below_0 rfl ?_
  refine gX5_114 ho dX5_below_1 y1 ?_
  refine z_if_ne (tgt := 9) ho dX5_below_4 (by decide) (by rw [hc]; unfold rng; omega) (fun c4 => ?_) (fun c4 => ?_)
  · have hne : ES ≠ [] := fun z => c4 (by
      have : S = [] := List.eq_nil_iff_forall_not_mem.mpr (fun x hx => by have := (hS x).mp hx; rw [z] at this; simp at this)
      rw [hc, this]; rfl)
    refine z_aload_n ho dX5_below_9 rfl ?_
    refine z_ifnonnull (tgt := 23) ho dX5_below_10 (by decide) (fun c10 => ?_) (fun c10 => ?_)
    · have hk : Ky u k := hk.resolve_left c10
      refine z_aload_n ho dX5_below_23 rfl ?_
      refine gX5_12 ho dX5_below_24 y1 ?_
      refine z_aload_n ho dX5_below_27 rfl ?_
      refine z_iconst ho dX5_below_28 ?_
      refine z_iload_n ho dX5_below_29 rfl ?_
      refine kX5_108 ho hN (c_Y_below_2 _ _ hk hst 16 _ _ [] (oc u k) _ _ 0 hTN hne rfl rfl) dX5_below_30 (by omega) (Nat.le_of_ble_eq_true rfl) (Nat.le_of_ble_eq_true rfl) (Nat.le_of_ble_eq_true rfl) (fun x30 u30 h30 => ?_)
      obtain ⟨rfl, hab⟩ := h30
      refine r_R ho dX5_below_33 (Nat.le_of_ble_eq_true rfl) (Nat.le_of_ble_eq_true rfl) ?_
      exact ⟨rfl, hab.qBe hS hso⟩
    · subst c10
      refine z_aload_n ho dX5_below_13 rfl ?_
      refine gX5_12 ho dX5_below_14 y1 ?_
      refine kX5_105 ho hN (c_T_last _ _ hTN hne) dX5_below_17 hr6 (by omega) (Nat.le_of_ble_eq_true rfl) (Nat.le_of_ble_eq_true rfl) (Nat.le_of_ble_eq_true rfl) (fun x17 u17 h17 => ?_)
      obtain ⟨rfl, hh⟩ := h17
      refine z_goto (tgt := 33) ho dX5_below_20 (by decide) ?_
      refine r_R ho dX5_below_33 (Nat.le_of_ble_eq_true rfl) (Nat.le_of_ble_eq_true rfl) ?_
      have := (Blw.all (u := u) (k := 0) (st := st) (es := ES) (fun x _ => Or.inl rfl)).qBe hS hso
      rw [hh] at this
      exact ⟨rfl, this⟩
  · have : S = [] := List.eq_nil_of_length_eq_zero (by omega)
    refine z_null ho dX5_below_7 ?_
    refine r_R ho dX5_below_8 (Nat.le_of_ble_eq_true rfl) (Nat.le_of_ble_eq_true rfl) ?_
    exact ⟨rfl, Or.inl ⟨rfl, fun e he => by rw [this] at he; simp at he⟩⟩
