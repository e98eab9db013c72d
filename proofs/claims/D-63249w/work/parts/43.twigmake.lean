set_option maxRecDepth 100000
/-! ===== Twig.<init>, leaf, split, merge, isInner ===== -/
/-- the array a begins with L -/
def PL (v : Mem) (a : Nat) (L : List Int) : Prop := ∀ (j : Nat) x, L[j]? = some x → iv_ v a (j : Int) = x
theorem PL.nil (v : Mem) (a : Nat) : PL v a [] := fun j x h => by simp at h
theorem PL.snoc {v : Mem} {a : Nat} {L : List Int} {i x : Int} (h : PL v a L) (hi : i = L.length) : PL (wI_ v a i x) a (L ++ [x]) := fun j y hj => by
  rw [iv_wI]
  by_cases q : j < L.length
  · rw [List.getElem?_append_left q] at hj
    rw [if_neg (by omega)]
    exact h j y hj
  · rw [List.getElem?_append_right (by omega)] at hj
    have : j - L.length = 0 := by
      by_cases z : j - L.length = 0
      · exact z
      · rw [List.getElem?_eq_none (by simp; omega)] at hj; cases hj
    rw [this] at hj
    simp at hj
    rw [if_pos ⟨rfl, by omega⟩, hj]
theorem PL.same {v v' : Mem} {a : Nat} {L : List Int} (h : PL v a L) (hs : ∀ i, iv_ v' a i = iv_ v a i) : PL v' a L := fun j x hj => by rw [hs]; exact h j x hj
theorem PL.pre {v : Mem} {a : Nat} {L M : List Int} (h : PL v a (L ++ M)) : PL v a L := fun j x hj => h j x (by
  rw [List.getElem?_append_left (List.getElem?_eq_some_iff.mp hj).1]; exact hj)
theorem PL.seg {v : Mem} {a : Nat} {L : List Int} (h : PL v a L) : seg (iv_ v a) L.length = L := by
  apply List.ext_getElem?
  intro j
  by_cases q : j < L.length
  · rw [seg_get q, List.getElem?_eq_getElem q, h j _ (List.getElem?_eq_getElem q)]
  · rw [List.getElem?_eq_none (by rw [seg_len]; omega), List.getElem?_eq_none (by omega)]
theorem PL.path {v : Mem} {t : Nat} {L : List Int} (h : PL v (rv_ v t 0) L) (hl : iv_ v t 1 = L.length) : pth v t = L := by
  unfold pth
  rw [hl, Int.toNat_natCast]
  exact h.seg
theorem PL.of_pth {v : Mem} {t : Nat} : PL v (rv_ v t 0) (pth v t) := fun j x hj => by
  unfold pth at hj
  have h2 : j < (iv_ v t 1).toNat := by
    have := (List.getElem?_eq_some_iff.mp hj).1
    rwa [seg_len] at this
  rw [seg_get h2] at hj
  cases hj
  rfl
def Tw0 (u u' : Mem) (t : Nat) : Prop := kd_ u' t = 6 ∧ rv_ u' t 0 = t + 1 ∧ kd_ u' (t + 1) = 100 ∧ ln_ u' (t + 1) = 16 ∧ iv_ u' t 1 = 0 ∧ rv_ u' t 2 = 0 ∧ rv_ u' t 3 = t + 2 ∧ F8 u' (t + 2) [] ∧ fpF u' (t + 2) = [t + 2, t + 3, t + 4] ∧ sz_ u' = t + 5 ∧ ∀ a, a < t → Sm u u' a
theorem c_Tw_init (l : Launch) (u : Mem) {t : Nat} (kt : kd_ u t = 6) (hz : sz_ u = t + 1) (h0 : ∀ i, iv_ u t i = 0) (hr : ∀ i, rv_ u t i = 0) : Mt_ l yX6_init cX6_init 1 none 3 4 51 [aR t] u (qV fun u' => Tw0 u u' t) := by
  refine Mt_of (by decide) (Nat.le_of_ble_eq_true rfl) (fun X ho hX hN hI => ?_)
  subst hX
  have hin : In_ X := hI rfl
  show Z X 0 [some (aR t)] [] u 0 0
  refine z_wf (fun hw => ?_)
  have ht0 := (hw.1 t (by omega)).2
  refine z_aload_n ho dX6_init_0 rfl ?_
  refine kX6_1 ho hN dX6_init_1 ht0 (Nat.le_of_ble_eq_true rfl) (Nat.le_of_ble_eq_true rfl) ?_
  refine z_aload_n ho dX6_init_4 rfl ?_
  refine z_bipush ho dX6_init_5 rfl ?_
  refine na_I ho dX6_init_7 (by omega) (by omega) (Nat.le_of_ble_eq_true rfl) (Nat.le_of_ble_eq_true rfl) ?_
  refine pX6_9 ho hin dX6_init_9 (by rw [kd_al, if_neg (by omega)]; exact kt)  ?_
  refine z_aload_n ho dX6_init_12 rfl ?_
  refine nX6_13 ho dX6_init_13 (Nat.le_of_ble_eq_true rfl) (Nat.le_of_ble_eq_true rfl) ?_
  refine z_dup ho dX6_init_16 rfl ?_
  refine z_iconst ho dX6_init_17 ?_
  refine kX6_15 ho hN (c_F8_init _ _ (by rw [kd_al, if_pos rfl]) (Or.inl rfl) rfl (fun i => by rw [iv_al, if_pos rfl])) dX6_init_18 (by rw [sz_wR, sz_al]; omega) (Nat.le_of_ble_eq_true rfl) (Nat.le_of_ble_eq_true rfl) (Nat.le_of_ble_eq_true rfl) (Nat.le_of_ble_eq_true rfl) (fun u18 h18 => ?_)
  obtain ⟨i1, i2, i3, i4, i5, i6⟩ := h18
  refine pX6_18 ho dX6_init_21 (by rw [(i6 t (by rw [sz_wR, sz_al]; omega)).1, kd_al, if_neg (by rw [sz_wR, sz_al]; omega), kd_wR, kd_al, if_neg (by omega)]; exact kt)  ?_
  refine r_V ho dX6_init_24 (Nat.le_of_ble_eq_true rfl) (Nat.le_of_ble_eq_true rfl) ?_
  have ef : sz_ (wR_ (al_ u 100 16) t 0 (sz_ u)) = t + 2 := by rw [sz_wR, sz_al, hz]
  rw [ef] at i1 i2 i3 i4 i6 ⊢
  rw [sz_al, ef] at i5
  have st := i6 t (by omega)
  have s1 := i6 (t + 1) (by omega)
  have e2 : ¬ (t = t + 1 + 1) := by omega
  have H : ∀ a, a ≠ t → Sm u18 (wR_ u18 t 3 (t + 2)) a := fun a ha => Sm.wR ha
  obtain ⟨f1, f2⟩ := Fn.same (v := wR_ u18 t 3 (t + 2)) (Or.inl i1) (fun a ha => H a (by
    unfold fpF at ha
    rw [i2, i3] at ha
    simp at ha
    omega))
  refine ⟨?_, ?_, ?_, ?_, ?_, ?_, ?_, F8.of_kd f1 (by rw [(H (t + 2) (by omega)).1]; exact i1.1), by rw [f2]; unfold fpF; rw [i2, i3], i5, fun a ha => ?_⟩
  · rw [kd_wR, st.1]; simp only [sz_wI, kd_wI, ln_wI, iv_wI, rv_wI, sz_wR, kd_wR, ln_wR, iv_wR, rv_wR, sz_al, kd_al, ln_al, iv_al, rv_al, hz]; simp [e2]; exact kt
  · rw [rv_wR, if_neg (by omega), st.2.2.2]; simp only [sz_wI, kd_wI, ln_wI, iv_wI, rv_wI, sz_wR, kd_wR, ln_wR, iv_wR, rv_wR, sz_al, kd_al, ln_al, iv_al, rv_al, hz]; simp [e2]
  · rw [kd_wR, s1.1]; simp only [sz_wI, kd_wI, ln_wI, iv_wI, rv_wI, sz_wR, kd_wR, ln_wR, iv_wR, rv_wR, sz_al, kd_al, ln_al, iv_al, rv_al, hz]; simp
  · rw [ln_wR, s1.2.1]; simp only [sz_wI, kd_wI, ln_wI, iv_wI, rv_wI, sz_wR, kd_wR, ln_wR, iv_wR, rv_wR, sz_al, kd_al, ln_al, iv_al, rv_al, hz]; simp
  · rw [iv_wR, st.2.2.1]; simp only [sz_wI, kd_wI, ln_wI, iv_wI, rv_wI, sz_wR, kd_wR, ln_wR, iv_wR, rv_wR, sz_al, kd_al, ln_al, iv_al, rv_al, hz]; simp [h0, e2]
  · rw [rv_wR, if_neg (by omega), st.2.2.2]; simp only [sz_wI, kd_wI, ln_wI, iv_wI, rv_wI, sz_wR, kd_wR, ln_wR, iv_wR, rv_wR, sz_al, kd_al, ln_al, iv_al, rv_al, hz]; simp [hr, e2]
  · rw [rv_wR, if_pos ⟨rfl, rfl⟩]
  · exact ((((Sm.al (by omega)).tr (Sm.wR (by omega))).tr (Sm.al (by rw [ef]; omega))).tr (i6 a (by omega))).tr (H a (by omega))
theorem fp5_nd (T : Nat) : [T, T + 1, T + 2, T + 3, T + 4].Nodup := by
  simp only [List.nodup_cons, List.mem_cons, List.not_mem_nil, or_false, not_false_eq_true, List.nodup_nil, and_true]
  omega
theorem c_leaf (l : Launch) (u : Mem) {e : Nat} {fr : Int} {p q : List Int} (he : En u e) (ho' : oc u e = p ++ q) (hfr : fr = p.length) : Mt_ l yX6_leaf cX6_leaf 4 (some (.object "KeyHall$Twig")) 4 5 55 [aR e, aI fr] u (qR fun r u' => (∃ fp, TT u' 1 p r [e] fp ∧ ∀ a ∈ fp, sz_ u ≤ a) ∧ kd_ u' r = 6 ∧ r ≠ 0 ∧ sz_ u ≤ sz_ u' ∧ ∀ a, a < sz_ u → Sm u u' a) := by
  subst hfr
  refine Mt_of (by decide) (Nat.le_of_ble_eq_true rfl) (fun X ho hX hN hI => ?_)
  subst hX
  show Z X 0 [some (aR e), some (aI  (p.length:Int)), none, none] [] u 0 0
  refine z_wf (fun hw => ?_)
  have hz0 := hw.2.2
  have hol := he.1.oc_len
  rw [ho', List.length_append] at hol
  refine nX6_7 ho dX6_leaf_0 (Nat.le_of_ble_eq_true rfl) (Nat.le_of_ble_eq_true rfl) ?_
  refine z_dup ho dX6_leaf_3 rfl ?_
  refine kX6_22 ho hN (c_Tw_init _ _ (by rw [kd_al, if_pos rfl]) rfl (fun i => by rw [iv_al, if_pos rfl]) (fun i => by rw [rv_al, if_pos rfl])) dX6_leaf_4 (by omega) (Nat.le_of_ble_eq_true rfl) (Nat.le_of_ble_eq_true rfl) (Nat.le_of_ble_eq_true rfl) (Nat.le_of_ble_eq_true rfl) (fun u4 h4 => ?_)
  obtain ⟨a1, a2, a3, a4, a5, a6, a7, a8, a9, a10, a11⟩ := h4
  refine z_astore_n ho dX6_leaf_7 (Nat.le_of_ble_eq_true rfl) rfl ?_
  refine z_iload_n ho dX6_leaf_8 rfl ?_
  refine z_istore_n ho dX6_leaf_9 (Nat.le_of_ble_eq_true rfl) rfl ?_
  refine z_cu (cu' := 5) (su' := 55) (Nat.le_of_ble_eq_true rfl) (Nat.le_of_ble_eq_true rfl) ?_
  generalize hT : sz_ u = T at *
  have el := (he.1.lt hw)
  rw [hT] at el
  have e4 : Ky u4 e ∧ tx u4 e = tx u e := he.1.same ((Sm.al (by omega)).tr (a11 e el.1)) ((Sm.al (by omega)).tr (a11 (e + 1) el.2.1))
  have k4 : kd_ u4 e = 14 := by rw [(a11 e el.1).1, kd_al, if_neg (by omega)]; exact he.2
  have key : ∀ (C A : List Int) (v : Mem), q = A ++ C → PL v (T + 1) A → iv_ v T 1 = A.length → (∀ i, rv_ v T i = rv_ u4 T i) → (∀ a, kd_ v a = kd_ u4 a ∧ ln_ v a = ln_ u4 a) → sz_ v = sz_ u4 → (∀ a, a ≠ T → a ≠ T + 1 → Sm u4 v a) → Z X 10 [some (aR e), some (aI (p.length : Int)), some (aR T), some (aI ((p.length : Int) + A.length))] [] v 5 55 := by
    intro C
    induction C with
    | nil =>
      intro A v h1 h2 h3 h4 h5 h6 h7
      have ev : Ky v e ∧ tx v e = tx u4 e := e4.1.same (h7 e (by omega) (by omega)) (h7 (e + 1) (by omega) (by omega))
      rw [List.append_nil] at h1
      rw [h1] at hol
      have hl2 : 2 * ((tx v e).length : Int) = p.length + A.length := by rw [ev.2, e4.2]; omega
      refine z_iload_n ho dX6_leaf_10 rfl ?_
      refine z_aload_n ho dX6_leaf_11 rfl ?_
      refine kX6_23 ho hN (c_bytes _ _ ev.1) dX6_leaf_12 (by rw [(h5 e).1]; exact k4) (Nat.le_of_ble_eq_true rfl) (Nat.le_of_ble_eq_true rfl) (Nat.le_of_ble_eq_true rfl) (Nat.le_of_ble_eq_true rfl) (fun x12 u12 h12 => ?_)
      obtain ⟨rfl, rfl⟩ := h12
      refine z_icmp_ge (tgt := 45) ho dX6_leaf_15 (by decide) (by unfold rng; omega) (by unfold rng; omega) (fun c15 => ?_) (fun c15 => ?_)
      · 
        refine z_aload_n ho dX6_leaf_45 rfl ?_
        refine z_aload_n ho dX6_leaf_46 rfl ?_
        refine pX6_37 ho dX6_leaf_47 (by rw [(h5 T).1]; exact a1)  ?_
        refine z_aload_n ho dX6_leaf_50 rfl ?_
        refine r_R ho dX6_leaf_51 (Nat.le_of_ble_eq_true rfl) (Nat.le_of_ble_eq_true rfl) ?_
        have H : ∀ a, a ≠ T → Sm v (wR_ v T 2 e) a := fun a ha => Sm.wR ha
        have ew : Ky (wR_ v T 2 e) e ∧ tx (wR_ v T 2 e) e = tx v e := ev.1.same (H e (by omega)) (H (e + 1) (by omega))
        have r0 : rv_ (wR_ v T 2 e) T 0 = T + 1 := by rw [rv_wR, if_neg (by omega), h4]; exact a2
        have r3 : rv_ (wR_ v T 2 e) T 3 = T + 2 := by rw [rv_wR, if_neg (by omega), h4]; exact a7
        have r2 : rv_ (wR_ v T 2 e) T 2 = e := by rw [rv_wR, if_pos ⟨rfl, rfl⟩]
        obtain ⟨f1, f2⟩ := Fn.same (v := wR_ v T 2 e) (Or.inl a8) (fun a ha => (h7 a (by rw [a9] at ha; simp at ha; omega) (by rw [a9] at ha; simp at ha; omega)).tr (H a (by rw [a9] at ha; simp at ha; omega)))
        have ep : pth (wR_ v T 2 e) T = A := PL.path (by rw [r0]; exact h2.same (fun i => rfl)) h3
        have hro : oc (wR_ v T 2 e) e = p ++ A := by unfold oc; rw [ew.2, ev.2, e4.2, ← h1]; exact ho'
        have hrg := ocL_rng ew.1.Tx
        rw [show ocL (tx (wR_ v T 2 e) e) = p ++ A from hro] at hrg
        refine ⟨⟨[T, T + 1, T + 2, T + 3, T + 4], ?_, fun a ha => by simp at ha; omega⟩, by rw [kd_wR, (h5 T).1]; exact a1, by omega, by rw [sz_wR, h6, a10]; omega, fun a ha => ((Sm.al (by omega)).tr (a11 a ha)).tr ((h7 a (by omega) (by omega)).tr (H a (by omega)))⟩
        refine ⟨by rw [kd_wR, (h5 T).1]; exact a1, ⟨by rw [r0, kd_wR, (h5 _).1]; exact a3, by rw [r0, ln_wR, (h5 _).2]; exact a4, by rw [iv_wR, h3]; omega, by rw [iv_wR, h3]; omega, by rw [ep]; exact fun x hx => hrg x (by simp [hx])⟩, [], [e], by rw [r3]; exact f1, Or.inr ⟨?_, ?_, by rw [r2]⟩, fun c hc => by simp at hc, by simp [ke], ?_, fp5_nd T, Or.inr (Or.inl (by rw [r2]; omega))⟩
        · rw [r2]; exact ⟨ew.1, by rw [kd_wR, (h5 e).1]; exact k4⟩
        · rw [r2, ep]; exact hro
        · rw [r0, r3, f2, a9]; simp [kf_]
      · omega
    | cons c C ih =>
      intro A v h1 h2 h3 h4 h5 h6 h7
      have ev : Ky v e ∧ tx v e = tx u4 e := e4.1.same (h7 e (by omega) (by omega)) (h7 (e + 1) (by omega) (by omega))
      have hat := he.1.oc_at (p := p ++ A) (c := c) (q := C) (by rw [ho', h1]; simp)
      rw [h1] at hol
      simp only [List.length_append, List.length_cons] at hol hat
      have hl2 : (tx v e).length = (tx u e).length := by rw [ev.2, e4.2]
      refine z_iload_n ho dX6_leaf_10 rfl ?_
      refine z_aload_n ho dX6_leaf_11 rfl ?_
      refine kX6_23 ho hN (c_bytes _ _ ev.1) dX6_leaf_12 (by rw [(h5 e).1]; exact k4) (Nat.le_of_ble_eq_true rfl) (Nat.le_of_ble_eq_true rfl) (Nat.le_of_ble_eq_true rfl) (Nat.le_of_ble_eq_true rfl) (fun x12 u12 h12 => ?_)
      obtain ⟨rfl, rfl⟩ := h12
      refine z_icmp_ge (tgt := 45) ho dX6_leaf_15 (by decide) (by unfold rng; omega) (by unfold rng; omega) (fun c15 => ?_) (fun c15 => ?_)
      · omega
      · 
        have kT : kd_ v T = 6 := by rw [(h5 T).1]; exact a1
        have r0 : rv_ v T 0 = T + 1 := by rw [h4]; exact a2
        have H : ∀ a, a ≠ T → Sm v (wI_ v T 1 (iv_ v T 1 + 1)) a := fun a ha => Sm.wI ha
        have ew : Ky (wI_ v T 1 (iv_ v T 1 + 1)) e ∧ tx (wI_ v T 1 (iv_ v T 1 + 1)) e = tx v e := ev.1.same (H e (by omega)) (H (e + 1) (by omega))
        have et : octL (tx (wI_ v T 1 (iv_ v T 1 + 1)) e) ((p.length : Int) + A.length) = c := by
          rw [ew.2, ev.2, e4.2, ← hat.1]; congr 1
        refine z_aload_n ho dX6_leaf_18 rfl ?_
        refine gX6_9 ho dX6_leaf_19 kT ?_
        refine z_aload_n ho dX6_leaf_22 rfl ?_
        refine z_dup ho dX6_leaf_23 rfl ?_
        refine gX6_29 ho dX6_leaf_24 kT ?_
        refine z_dup_x1 ho dX6_leaf_27 rfl rfl ?_
        refine z_iconst ho dX6_leaf_28 ?_
        refine z_iadd ho dX6_leaf_29 ?_
        refine pX6_29 ho dX6_leaf_30 kT  ?_
        refine z_aload_n ho dX6_leaf_33 rfl ?_
        refine z_iload_n ho dX6_leaf_34 rfl ?_
        refine kX6_33 ho hN (c_octet _ _ ew.1 (by omega) (by rw [ew.2, hl2]; omega)) dX6_leaf_35 (by rw [kd_wI, (h5 e).1]; exact k4) (Nat.le_of_ble_eq_true rfl) (Nat.le_of_ble_eq_true rfl) (Nat.le_of_ble_eq_true rfl) (Nat.le_of_ble_eq_true rfl) (fun x35 u35 h35 => ?_)
        obtain ⟨rfl, rfl⟩ := h35
        rw [et, r0, h3]
        refine z_iast ho dX6_leaf_38 (by rw [kd_wI, (h5 _).1]; exact a3) (by omega) (by rw [ln_wI, (h5 _).2, a4]; omega) ?_
        refine z_iinc ho dX6_leaf_39 rfl rfl ?_
        refine z_goto (tgt := 10) ho dX6_leaf_42 (by decide) ?_
        have := ih (A ++ [c]) (wI_ (wI_ v T 1 (↑A.length + 1)) (T + 1) ↑A.length c) (by rw [h1]; simp) (PL.snoc (h2.same (fun i => by rw [iv_wI, if_neg (by omega)])) rfl) (by rw [iv_wI, if_neg (by omega), iv_wI, if_pos ⟨rfl, rfl⟩]; simp) (fun i => h4 i) h5 h6 (fun a q1 q2 => ((h7 a q1 q2).tr (Sm.wI q1)).tr (Sm.wI q2))
        rw [List.length_append] at this
        simp only [List.length_cons, List.length_nil, Nat.zero_add, Int.natCast_add, Int.natCast_one] at this
        rw [show (p.length : Int) + A.length + 1 = p.length + (A.length + 1) by omega]
        exact this
  have := key q [] u4 rfl (PL.nil _ _) a5 (fun _ => rfl) (fun _ => ⟨rfl, rfl⟩) rfl (fun a _ _ => Sm.rf _ a)
  have e : (p.length : Int) + (([] : List Int).length : Int) = (p.length : Int) := by simp
  rw [e] at this
  exact this
theorem c_isInner (l : Launch) (u : Mem) {n t : Nat} {rt : Bool} {p : List Int} {es0 : List Nat} {cs : List Kid} (h : TD u n rt p t es0 cs) : Mt_ l yX6_isInner cX6_isInner 1 (some .boolean) 0 0 0 [aR t] u (qI fun r u' => u = u' ∧ r = if 2 ≤ cs.length ∨ (es0 ≠ [] ∧ 1 ≤ cs.length) then 1 else 0) := by
  obtain ⟨kt, hp, hF, he, hc, hnd, hne⟩ := h
  have hsz := hF.size
  rw [kx_len] at hsz
  have hsl := hF.srt.len
  rw [kx_len] at hsl
  refine Mt_of (by decide) (Nat.le_of_ble_eq_true rfl) (fun X ho hX hN hI => ?_)
  subst hX
  show Z X 0 [some (aR t)] [] u 0 0
  refine z_wf (fun hw => ?_)
  have e0 : rv_ u t 2 = 0 ↔ es0 = [] := by
    rcases he with ⟨z, rfl⟩ | ⟨z, -, rfl⟩
    · simp [z]
    · simp [z.ne0 hw]
  refine z_aload_n ho dX6_isInner_0 rfl ?_
  refine gX6_18 ho dX6_isInner_1 kt ?_
  refine gX6_58 ho dX6_isInner_4 hF.isF ?_
  refine z_iconst ho dX6_isInner_7 ?_
  refine z_icmp_gt (tgt := 28) ho dX6_isInner_8 (by decide) (by rw [hsz]; unfold rng; omega) (by unfold rng; omega) (fun c8 => ?_) (fun c8 => ?_)
  · rw [hsz] at c8
    refine z_iconst ho dX6_isInner_28 ?_
    refine z_goto (tgt := 33) ho dX6_isInner_29 (by decide) ?_
    refine r_Z ho dX6_isInner_33 (Nat.le_of_ble_eq_true rfl) (Nat.le_of_ble_eq_true rfl) ?_ ?_
    · exact Or.inr rfl
    · exact ⟨rfl, by rw [if_pos (Or.inl (by omega))]⟩
  · rw [hsz] at c8
    refine z_aload_n ho dX6_isInner_11 rfl ?_
    refine gX6_37 ho dX6_isInner_12 kt ?_
    refine z_ifnull (tgt := 32) ho dX6_isInner_15 (by decide) (fun c15 => ?_) (fun c15 => ?_)
    · 
      refine z_iconst ho dX6_isInner_32 ?_
      refine r_Z ho dX6_isInner_33 (Nat.le_of_ble_eq_true rfl) (Nat.le_of_ble_eq_true rfl) ?_ ?_
      · exact Or.inl rfl
      · exact ⟨rfl, by rw [if_neg (fun z => by rcases z with z | z; (· omega); exact z.1 (e0.mp c15))]⟩
    · 
      refine z_aload_n ho dX6_isInner_18 rfl ?_
      refine gX6_18 ho dX6_isInner_19 kt ?_
      refine gX6_58 ho dX6_isInner_22 hF.isF ?_
      refine z_if_le (tgt := 32) ho dX6_isInner_25 (by decide) (by rw [hsz]; unfold rng; omega) (fun c25 => ?_) (fun c25 => ?_)
      · rw [hsz] at c25
        refine z_iconst ho dX6_isInner_32 ?_
        refine r_Z ho dX6_isInner_33 (Nat.le_of_ble_eq_true rfl) (Nat.le_of_ble_eq_true rfl) ?_ ?_
        · exact Or.inl rfl
        · exact ⟨rfl, by rw [if_neg (by omega)]⟩
      · rw [hsz] at c25
        refine z_iconst ho dX6_isInner_28 ?_
        refine z_goto (tgt := 33) ho dX6_isInner_29 (by decide) ?_
        refine r_Z ho dX6_isInner_33 (Nat.le_of_ble_eq_true rfl) (Nat.le_of_ble_eq_true rfl) ?_ ?_
        · exact Or.inr rfl
        · exact ⟨rfl, by rw [if_pos (Or.inr ⟨fun z => c15 (e0.mpr z), by omega⟩)]⟩
theorem split_fin {u w : Mem} {n t T T1 f : Nat} {rt : Bool} {p A B : List Int} {b : Int} {es0 : List Nat} {cs : List Kid} (hD : TD u n rt p t es0 cs) (hw : Wf u) (hAB : pth u t = A ++ b :: B) (hne : rv_ u t 2 ≠ 0 ∨ 2 ≤ cs.length)
    (s : ∀ a, a < sz_ u → a ≠ t → Sm u w a) (t1 : kd_ w t = 6) (t0 : rv_ w t 0 = rv_ u t 0) (ti : iv_ w t 1 = A.length) (t2 : rv_ w t 2 = 0) (t3 : rv_ w t 3 = f) (k1 : kd_ w T = 6) (T0 : rv_ w T 0 = T1) (kT1 : kd_ w T1 = 100) (lT1 : ln_ w T1 = 16) (hPL : PL w T1 B) (Ti : iv_ w T 1 = B.length) (T2 : rv_ w T 2 = rv_ u t 2) (T3 : rv_ w T 3 = rv_ u t 3) (hF : Fn w f [(b, T)])
    (hnd : (T :: T1 :: fpF w f).Nodup) (hnew : ∀ a ∈ T :: T1 :: fpF w f, sz_ u ≤ a) :
    ∃ fpr, TD w (n + 1) true p t [] [(b, T, es0 ++ ke cs, fpr)] ∧ pth w t = A ∧ ∀ a ∈ fpT w t [(b, T, es0 ++ ke cs, fpr)], a ∈ fpT u t cs ∨ sz_ u ≤ a := by
  have hlt := hD.lt hw
  have hene := hD.ene
  have hen : ∀ e, En u e → En w e ∧ tx w e = tx u e := fun e he => by
    have hl := he.1.lt hw
    have kt := hD.1
    have h1 := s e hl.1 (fun z => by rw [z] at he; have := he.2; omega)
    have := he.1.same h1 (s (e + 1) hl.2.1 (fun z => by have := he.1.2.2.1; rw [z] at this; omega))
    exact ⟨⟨this.1, by rw [h1.1]; exact he.2⟩, this.2⟩
  obtain ⟨kt, ⟨kp, lp, n0, n1, hpx⟩, hFu, he, hc, hndu, -⟩ := hD
  have hpl := pth_len n0
  rw [hAB] at hpl
  simp only [List.length_append, List.length_cons] at hpl
  have ntp : rv_ u t 0 ≠ t := fun z => by rw [z] at kp; omega
  have sp := s (rv_ u t 0) (hlt _ (by simp [fpT])) ntp
  unfold fpT at hndu
  obtain ⟨nd1, nd2⟩ := List.nodup_cons.mp hndu
  obtain ⟨nd3, nd4⟩ := List.nodup_cons.mp nd2
  have sF : ∀ a ∈ fpF u (rv_ u t 3) ++ kf_ cs, Sm u w a := fun a ha => s a (hlt a (by unfold fpT; simp [List.mem_append.mp ha])) (fun z => nd1 (by have := ha; rw [z] at this; exact List.mem_cons_of_mem _ this))
  obtain ⟨hFw, hfw⟩ := hFu.same (v := w) (fun a ha => sF a (by simp [ha]))
  have ept : pth w t = A := by
    refine PL.path ?_ ti
    rw [t0]
    have : PL u (rv_ u t 0) (A ++ b :: B) := by rw [← hAB]; exact PL.of_pth
    exact this.pre.same (fun i => sp.2.2.1 i)
  have epT : pth w T = B := PL.path (by rw [T0]; exact hPL) Ti
  have epp : p ++ A ++ [b] ++ B = p ++ pth u t := by rw [hAB]; simp
  have hrest : TT w (n + 1) (p ++ A ++ [b]) T (es0 ++ ke cs) (fpT w T cs) := by
    refine ⟨k1, ⟨by rw [T0]; exact kT1, by rw [T0]; exact lT1, by omega, by omega, fun x hx => hpx x (by rw [hAB]; rw [epT] at hx; simp [hx])⟩, cs, es0, by rw [T3]; exact hFw, ?_, fun c hcm => ?_, rfl, rfl, ?_, Or.inr (by rw [T2]; exact hne)⟩
    · rw [T2, epT, epp]
      rcases he with z | ⟨z1, z2, z3⟩
      · exact Or.inl z
      · have := hen _ z1
        exact Or.inr ⟨this.1, by unfold oc; rw [this.2]; exact z2, z3⟩
    · rw [epT, epp]
      exact TT.frame _ _ _ _ _ (hc c hcm) (fun a ha => sF a (by simp [mem_kf.mpr ⟨c, hcm, ha⟩])) (fun e hee => hen e ((TT.mem _ _ _ _ _ (hc c hcm)).1 e hee).1)
    · unfold fpT
      rw [T0, T3, hfw]
      refine List.nodup_cons.mpr ⟨fun z => ?_, List.nodup_cons.mpr ⟨fun z => ?_, nd4⟩⟩
      · rcases List.mem_cons.mp z with q | q
        · exact (List.nodup_cons.mp hnd).1 (by rw [q]; simp)
        · have h1 := hlt T (by unfold fpT; simp [List.mem_append.mp q])
          have h2 := hnew T (by simp)
          omega
      · have h1 := hlt T1 (by unfold fpT; simp [List.mem_append.mp z])
        have h2 := hnew T1 (by simp)
        omega
  have eft : fpT w t [(b, T, es0 ++ ke cs, fpT w T cs)] = t :: rv_ u t 0 :: (fpF w f ++ (T :: T1 :: (fpF u (rv_ u t 3) ++ kf_ cs))) := by
    unfold fpT
    rw [t0, t3, show kf_ [(b, T, es0 ++ ke cs, T :: rv_ w T 0 :: (fpF w (rv_ w T 3) ++ kf_ cs))] = T :: rv_ w T 0 :: (fpF w (rv_ w T 3) ++ kf_ cs) by simp [kf_], T0, T3, hfw]
  refine ⟨fpT w T cs, ⟨t1, ⟨by rw [t0, sp.1]; exact kp, by rw [t0, sp.2.1]; exact lp, by omega, by omega, fun x hx => hpx x (by rw [hAB]; rw [ept] at hx; simp [hx])⟩, by rw [t3]; exact hF, Or.inl ⟨t2, rfl⟩, fun c hcm => ?_, ?_, Or.inl rfl⟩, ept, fun a ha => ?_⟩
  · rw [List.mem_singleton.mp hcm, ept]
    exact hrest
  · rw [eft]
    have hold : ∀ a ∈ t :: rv_ u t 0 :: (fpF u (rv_ u t 3) ++ kf_ cs), a < sz_ u := hlt
    have big : ((t :: rv_ u t 0 :: []) ++ ((fpF w f ++ [T, T1]) ++ (fpF u (rv_ u t 3) ++ kf_ cs))).Nodup := by
      refine nd_rep (C := []) (N := sz_ u) (by simpa using hndu) ?_ (fun a ha => Or.inr (hnew a (by simp at ha ⊢; rcases ha with q | q | q <;> simp [q]))) (fun a ha => hold a (by simpa using ha))
      have h1 := List.nodup_cons.mp hnd
      have h2 := List.nodup_cons.mp h1.2
      refine List.nodup_append.mpr ⟨h2.2, ?_, fun x hx y hy => ?_⟩
      · have : T ≠ T1 := fun z => h1.1 (by simp [z])
        simp [this]
      · simp at hy
        rcases hy with q | q
        · intro z; exact h1.1 (by rw [← q, ← z]; simp [hx])
        · intro z; exact h2.1 (by rw [← q, ← z]; exact hx)
    simpa using big
  · rw [eft] at ha
    simp only [List.mem_cons, List.mem_append] at ha
    unfold fpT
    rcases ha with q | q | q | q | q | q
    · left; simp [q]
    · left; simp [q]
    · right; exact hnew a (by simp [q])
    · right; exact hnew a (by simp [q])
    · right; exact hnew a (by simp [q])
    · left; simp [q]
theorem c_split (l : Launch) (u : Mem) {n t : Nat} {rt : Bool} {p A B : List Int} {b m : Int} {es0 : List Nat} {cs : List Kid} (hD : TD u n rt p t es0 cs) (hAB : pth u t = A ++ b :: B) (hm : m = A.length) (hne : rv_ u t 2 ≠ 0 ∨ 2 ≤ cs.length) :
    Mt_ l yX6_split cX6_split 4 none 4 8 90 [aR t, aI m] u (qV fun u' => (∃ T fpr, TD u' (n + 1) true p t [] [(b, T, es0 ++ ke cs, fpr)] ∧ pth u' t = A ∧ ∀ a ∈ fpT u' t [(b, T, es0 ++ ke cs, fpr)], a ∈ fpT u t cs ∨ sz_ u ≤ a) ∧ sz_ u ≤ sz_ u' ∧ ln_ u' t = ln_ u t ∧ ∀ a, a < sz_ u → a ≠ t → Sm u u' a) := by
  subst hm
  refine Mt_of (by decide) (Nat.le_of_ble_eq_true rfl) (fun X ho hX hN hI => ?_)
  subst hX
  show Z X 0 [some (aR t), some (aI  (A.length:Int)), none, none] [] u 0 0
  refine z_wf (fun hw => ?_)
  have kt := hD.1
  obtain ⟨kp, lp, n0, n1, hpx⟩ := hD.2.1
  have hz0 := hw.2.2
  have htl := hw.1 t (by omega)
  have hpl0 := hw.1 (rv_ u t 0) (by omega)
  have ntp : rv_ u t 0 ≠ t := fun z => by rw [z] at kp; omega
  have hpl := pth_len n0
  rw [hAB] at hpl
  simp only [List.length_append, List.length_cons] at hpl
  have hb := hpx b (by rw [hAB]; simp)
  refine nX6_7 ho dX6_split_0 (Nat.le_of_ble_eq_true rfl) (Nat.le_of_ble_eq_true rfl) ?_
  refine z_dup ho dX6_split_3 rfl ?_
  refine kX6_22 ho hN (c_Tw_init _ _ (by rw [kd_al, if_pos rfl]) rfl (fun i => by rw [iv_al, if_pos rfl]) (fun i => by rw [rv_al, if_pos rfl])) dX6_split_4 (by omega) (Nat.le_of_ble_eq_true rfl) (Nat.le_of_ble_eq_true rfl) (Nat.le_of_ble_eq_true rfl) (Nat.le_of_ble_eq_true rfl) (fun u4 h4 => ?_)
  obtain ⟨a1, a2, a3, a4, a5, a6, a7, a8, a9, a10, a11⟩ := h4
  refine z_astore_n ho dX6_split_7 (Nat.le_of_ble_eq_true rfl) rfl ?_
  refine z_iload_n ho dX6_split_8 rfl ?_
  refine z_iconst ho dX6_split_9 ?_
  refine z_iadd ho dX6_split_10 ?_
  refine z_istore_n ho dX6_split_11 (Nat.le_of_ble_eq_true rfl) rfl ?_
  refine z_cu (cu' := 5) (su' := 55) (Nat.le_of_ble_eq_true rfl) (Nat.le_of_ble_eq_true rfl) ?_
  have smA : ∀ a, a < sz_ u → Sm u u4 a := fun a ha => (Sm.al (by omega)).tr (a11 a ha)
  have split := fun w T T1 f => split_fin (w := w) (T := T) (T1 := T1) (f := f) hD hw hAB hne
  generalize hT : sz_ u = T at *
  have key : ∀ (C A' : List Int) (v : Mem), B = A' ++ C → PL v (T + 1) A' → iv_ v T 1 = A'.length → (∀ i, rv_ v T i = rv_ u4 T i) → (∀ a, kd_ v a = kd_ u4 a ∧ ln_ v a = ln_ u4 a) → sz_ v = sz_ u4 → (∀ a, a ≠ T → a ≠ T + 1 → Sm u4 v a) → Z X 12 [some (aR t), some (aI (A.length : Int)), some (aR T), some (aI ((A.length : Int) + 1 + A'.length))] [] v 5 55 := by
    intro C
    induction C with
    | nil =>
      intro A' v h1 h2 h3 h4 h5 h6 h7
      rw [List.append_nil] at h1
      subst h1
      have st : Sm u v t := (smA t htl.1).tr (h7 t (by omega) (by omega))
      have sp : Sm u v (rv_ u t 0) := (smA _ hpl0.1).tr (h7 _ (by omega) (by omega))
      have ktv : kd_ v t = 6 := by rw [st.1]; exact kt
      have kTv : kd_ v T = 6 := by rw [(h5 T).1]; exact a1
      have e1 : iv_ v t 1 = (A.length : Int) + 1 + B.length := by rw [st.2.2.1]; omega
      refine z_iload_n ho dX6_split_12 rfl ?_
      refine z_aload_n ho dX6_split_13 rfl ?_
      refine gX6_29 ho dX6_split_14 ktv ?_
      refine z_icmp_ge (tgt := 48) ho dX6_split_17 (by decide) (by unfold rng; omega) (by rw [e1]; unfold rng; omega) (fun c17 => ?_) (fun c17 => ?_)
      · 
        refine z_aload_n ho dX6_split_48 rfl ?_
        refine z_aload_n ho dX6_split_49 rfl ?_
        refine gX6_37 ho dX6_split_50 ktv ?_
        refine pX6_37 ho dX6_split_53 kTv  ?_
        refine z_aload_n ho dX6_split_56 rfl ?_
        refine z_aload_n ho dX6_split_57 rfl ?_
        refine gX6_18 ho dX6_split_58 ktv ?_
        refine pX6_18 ho dX6_split_61 kTv  ?_
        refine z_aload_n ho dX6_split_64 rfl ?_
        refine z_null ho dX6_split_65 ?_
        refine pX6_37 ho dX6_split_66 ktv  ?_
        have q3 : rv_ (wR_ v T 2 (rv_ v t 2)) t 3 = rv_ v t 3 := by rw [rv_wR, if_neg (by omega)]
        rw [q3, st.2.2.2, st.2.2.2]
        generalize hv1 : wR_ (wR_ (wR_ v T 2 (rv_ u t 2)) T 3 (rv_ u t 3)) t 2 0 = v1
        have K1 : ∀ a, kd_ v1 a = kd_ v a := fun a => by rw [← hv1]; rfl
        have L1 : ∀ a, ln_ v1 a = ln_ v a := fun a => by rw [← hv1]; rfl
        have I1 : ∀ a i, iv_ v1 a i = iv_ v a i := fun a i => by rw [← hv1]; rfl
        have S1 : sz_ v1 = T + 5 := by rw [← hv1, sz_wR, sz_wR, sz_wR, h6, a10]
        have M1 : ∀ a, a ≠ t → a ≠ T → Sm v v1 a := fun a z1 z2 => by rw [← hv1]; exact ((Sm.wR z2).tr (Sm.wR z2)).tr (Sm.wR z1)
        have t0 : rv_ v1 t 0 = rv_ u t 0 := by rw [← hv1]; simp only [rv_wR]; rw [if_neg (by omega), if_neg (by omega), if_neg (by omega)]; exact st.2.2.2 0
        have t2 : rv_ v1 t 2 = 0 := by rw [← hv1, rv_wR, if_pos ⟨rfl, rfl⟩]
        have T0 : rv_ v1 T 0 = T + 1 := by rw [← hv1]; simp only [rv_wR]; rw [if_neg (by omega), if_neg (by omega), if_neg (by omega), h4]; exact a2
        have T2 : rv_ v1 T 2 = rv_ u t 2 := by rw [← hv1, rv_wR, if_neg (by omega), rv_wR, if_neg (by omega), rv_wR, if_pos ⟨rfl, rfl⟩]
        have T3 : rv_ v1 T 3 = rv_ u t 3 := by rw [← hv1, rv_wR, if_neg (by omega), rv_wR, if_pos ⟨rfl, rfl⟩]
        refine z_aload_n ho dX6_split_69 rfl ?_
        refine nX6_13 ho dX6_split_70 (Nat.le_of_ble_eq_true rfl) (Nat.le_of_ble_eq_true rfl) ?_
        refine z_dup ho dX6_split_73 rfl ?_
        refine z_iconst ho dX6_split_74 ?_
        refine kX6_15 ho hN (c_F8_init _ _ (by rw [kd_al, if_pos rfl]) (Or.inl rfl) rfl (fun i => by rw [iv_al, if_pos rfl])) dX6_split_75 (by omega) (Nat.le_of_ble_eq_true rfl) (Nat.le_of_ble_eq_true rfl) (Nat.le_of_ble_eq_true rfl) (Nat.le_of_ble_eq_true rfl) (fun u75 h75 => ?_)
        obtain ⟨i1, i2, i3, i4, i5, i6⟩ := h75
        rw [S1] at i1 i2 i3 i4 i6 ⊢
        have N1 : ∀ a, a < T + 5 → Sm v1 u75 a := fun a ha => (Sm.al (by omega)).tr (i6 a ha)
        have F75 : fpF u75 (T + 5) = [T + 5, T + 5 + 1, T + 5 + 2] := by unfold fpF; rw [i2, i3]
        have kt75 : kd_ u75 t = 6 := by rw [(N1 t (by omega)).1, K1]; exact ktv
        have kT75 : kd_ u75 T = 6 := by rw [(N1 T (by omega)).1, K1]; exact kTv
        have p75 : rv_ u75 t 0 = rv_ u t 0 := by rw [(N1 t (by omega)).2.2.2]; exact t0
        have sp75 : Sm u u75 (rv_ u t 0) := (sp.tr (M1 _ ntp (by omega))).tr (N1 _ (by omega))
        have eb : iv_ u75 (rv_ u t 0) (A.length : Int) = b := by rw [sp75.2.2.1]; exact pth_get hAB
        refine z_aload_n ho dX6_split_78 rfl ?_
        refine gX6_9 ho dX6_split_79 kt75 ?_
        rw [p75]
        refine z_iload_n ho dX6_split_82 rfl ?_
        refine z_iald ho dX6_split_83 (by rw [sp75.1]; exact kp) (by omega) (by rw [sp75.2.1]; omega) ?_
        rw [eb]
        refine z_aload_n ho dX6_split_84 rfl ?_
        refine kX6_45 ho hN (c_F8_put_room _ _ i1 (fun x hx => by simp at hx) hb.1 hb.2 kT75 (fun x hx => by simp at hx) (by rw [i2, i4]; decide)) dX6_split_85 i1.1 (Nat.le_of_ble_eq_true rfl) (Nat.le_of_ble_eq_true rfl) (Nat.le_of_ble_eq_true rfl) (Nat.le_of_ble_eq_true rfl) (fun x85 u85 h85 => ?_)
        obtain ⟨p0, p1, p2, p3, p4, p5⟩ := h85
        subst p0
        have N2 : ∀ a, a < T + 5 → Sm u75 u85 a := fun a ha => (p4.2 a (by rw [i5, sz_al, S1]; omega)).2.2 (fun z => by rw [F75] at z; simp at z; omega)
        have N : ∀ a, a < T + 5 → Sm v1 u85 a := fun a ha => (N1 a ha).tr (N2 a ha)
        refine pX6_18 ho dX6_split_88 (by rw [(N t (by omega)).1, K1]; exact ktv)  ?_
        refine z_aload_n ho dX6_split_91 rfl ?_
        refine z_iload_n ho dX6_split_92 rfl ?_
        refine pX6_29 ho dX6_split_93 (by rw [kd_wR, (N t (by omega)).1, K1]; exact ktv)  ?_
        refine r_V ho dX6_split_96 (Nat.le_of_ble_eq_true rfl) (Nat.le_of_ble_eq_true rfl) ?_
        generalize hw9 : wI_ (wR_ u85 t 3 (T + 5)) t 1 (A.length : Int) = w
        have O : ∀ a, a ≠ t → Sm u85 w a := fun a ha => by rw [← hw9]; exact (Sm.wR ha).tr (Sm.wI ha)
        have sm : ∀ a, a < T → a ≠ t → Sm u w a := fun a h1 h2 => ((((smA a h1).tr (h7 a (by omega) (by omega))).tr (M1 a h2 (by omega))).tr (N a (by omega))).tr (O a h2)
        have wT : Sm v1 w T := (N T (by omega)).tr (O T (by omega))
        have wT1 : Sm v w (T + 1) := ((M1 (T + 1) (by omega) (by omega)).tr (N _ (by omega))).tr (O _ (by omega))
        obtain ⟨f1, f2⟩ := Fn.same (v := w) (Or.inl p1) (fun a ha => O a (by unfold fpF at ha; rw [p2, p3, i2, i3] at ha; simp at ha; omega))
        have f3 : fpF w (T + 5) = [T + 5, T + 5 + 1, T + 5 + 2] := by rw [f2]; unfold fpF; rw [p2, p3, i2, i3]
        refine ⟨⟨T, split w T (T + 1) (T + 5) sm ?_ ?_ ?_ ?_ ?_ (by rw [wT.1, K1]; exact kTv) (by rw [wT.2.2.2]; exact T0) (by rw [wT1.1, (h5 _).1]; exact a3) (by rw [wT1.2.1, (h5 _).2]; exact a4) (h2.same wT1.2.2.1) (by rw [wT.2.2.1, I1]; exact h3) (by rw [wT.2.2.2]; exact T2) (by rw [wT.2.2.2]; exact T3) f1 ?_ ?_⟩, ?_, by rw [← hw9, ln_wI, ln_wR, (N t (by omega)).2.1, L1, st.2.1], sm⟩
        · rw [← hw9, kd_wI, kd_wR, (N t (by omega)).1, K1]; exact ktv
        · rw [← hw9, rv_wI, rv_wR, if_neg (by omega), (N t (by omega)).2.2.2]; exact t0
        · rw [← hw9, iv_wI, if_pos ⟨rfl, rfl⟩]
        · rw [← hw9, rv_wI, rv_wR, if_neg (by omega), (N t (by omega)).2.2.2]; exact t2
        · rw [← hw9, rv_wI, rv_wR, if_pos ⟨rfl, rfl⟩]
        · rw [f3]
          simp only [List.nodup_cons, List.mem_cons, List.not_mem_nil, or_false, not_false_eq_true, List.nodup_nil, and_true]
          omega
        · rw [f3]
          intro a ha
          simp at ha
          omega
        · rw [← hw9, sz_wI, sz_wR, p5, i5, sz_al, S1]; omega
      · omega
    | cons c C ih =>
      intro A' v h1 h2 h3 h4 h5 h6 h7
      have st : Sm u v t := (smA t htl.1).tr (h7 t (by omega) (by omega))
      have sp : Sm u v (rv_ u t 0) := (smA _ hpl0.1).tr (h7 _ (by omega) (by omega))
      have ktv : kd_ v t = 6 := by rw [st.1]; exact kt
      have kTv : kd_ v T = 6 := by rw [(h5 T).1]; exact a1
      have hBl : B.length = A'.length + (C.length + 1) := by rw [h1]; simp
      have e1 : iv_ v t 1 = (A.length : Int) + 1 + B.length := by rw [st.2.2.1]; omega
      have r0 : rv_ v T 0 = T + 1 := by rw [h4]; exact a2
      have hg := pth_get (u := u) (t := t) (A := A ++ b :: A') (b := c) (B := C) (by rw [hAB, h1]; simp)
      rw [List.length_append, List.length_cons] at hg
      have et : ∀ x : Int, iv_ (wI_ v T 1 x) (rv_ (wI_ v T 1 x) t 0) ((A.length : Int) + 1 + A'.length) = c := fun x => by
        rw [rv_wI, st.2.2.2, iv_wI, if_neg (by omega), sp.2.2.1, ← hg]
        congr 1
        omega
      refine z_iload_n ho dX6_split_12 rfl ?_
      refine z_aload_n ho dX6_split_13 rfl ?_
      refine gX6_29 ho dX6_split_14 ktv ?_
      refine z_icmp_ge (tgt := 48) ho dX6_split_17 (by decide) (by unfold rng; omega) (by rw [e1]; unfold rng; omega) (fun c17 => ?_) (fun c17 => ?_)
      · omega
      · 
        refine z_aload_n ho dX6_split_20 rfl ?_
        refine gX6_9 ho dX6_split_21 kTv ?_
        refine z_aload_n ho dX6_split_24 rfl ?_
        refine z_dup ho dX6_split_25 rfl ?_
        refine gX6_29 ho dX6_split_26 kTv ?_
        refine z_dup_x1 ho dX6_split_29 rfl rfl ?_
        refine z_iconst ho dX6_split_30 ?_
        refine z_iadd ho dX6_split_31 ?_
        refine pX6_29 ho dX6_split_32 kTv  ?_
        refine z_aload_n ho dX6_split_35 rfl ?_
        refine gX6_9 ho dX6_split_36 ktv ?_
        refine z_iload_n ho dX6_split_39 rfl ?_
        refine z_iald ho dX6_split_40 (by rw [kd_wI, rv_wI, st.2.2.2, sp.1]; exact kp) (by omega) (by rw [ln_wI, rv_wI, st.2.2.2, sp.2.1]; omega) ?_
        rw [et, r0, h3]
        refine z_iast ho dX6_split_41 (by rw [kd_wI, (h5 _).1]; exact a3) (by omega) (by rw [ln_wI, (h5 _).2, a4]; omega) ?_
        refine z_iinc ho dX6_split_42 rfl rfl ?_
        refine z_goto (tgt := 12) ho dX6_split_45 (by decide) ?_
        have := ih (A' ++ [c]) (wI_ (wI_ v T 1 (↑A'.length + 1)) (T + 1) ↑A'.length c) (by rw [h1]; simp) (PL.snoc (h2.same (fun i => by rw [iv_wI, if_neg (by omega)])) rfl) (by rw [iv_wI, if_neg (by omega), iv_wI, if_pos ⟨rfl, rfl⟩]; simp) (fun i => h4 i) h5 h6 (fun a q1 q2 => ((h7 a q1 q2).tr (Sm.wI q1)).tr (Sm.wI q2))
        rw [List.length_append] at this
        simp only [List.length_cons, List.length_nil, Nat.zero_add, Int.natCast_add, Int.natCast_one] at this
        rw [show (A.length : Int) + 1 + A'.length + 1 = A.length + 1 + (A'.length + 1) by omega]
        exact this
  have := key B [] u4 rfl (PL.nil _ _) a5 (fun _ => rfl) (fun _ => ⟨rfl, rfl⟩) rfl (fun a _ _ => Sm.rf _ a)
  have e : (A.length : Int) + 1 + (([] : List Int).length : Int) = (A.length : Int) + 1 := by simp
  rw [e] at this
  exact this
