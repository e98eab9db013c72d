set_option maxRecDepth 100000
/-! ===== fans of both kinds: reading ===== -/
theorem c_G8_get (l : Launch) (u : Mem) {f : Nat} {b : Int} {xs : List (Int × Nat)} (hF : Fn u f xs) (h0 : 0 ≤ b) (h1 : b < 256) (hk : kd_ u f = 8) : Mt_ l yX8_get cX8_get 3 (some (.object "KeyHall$Twig")) 1 0 0 [aR f, aI b] u (qR fun r u' => u = u' ∧ r = lk b xs) := (c_F8_get l u (F8.of_kd hF hk) h0 h1).weak (by omega) (by omega) (by omega) (fun _ _ h => h)
theorem c_G16_get (l : Launch) (u : Mem) {f : Nat} {b : Int} {xs : List (Int × Nat)} (hF : Fn u f xs) (h0 : 0 ≤ b) (h1 : b < 256) (hk : kd_ u f = 16) : Mt_ l yX16_get cX16_get 2 (some (.object "KeyHall$Twig")) 1 0 0 [aR f, aI b] u (qR fun r u' => u = u' ∧ r = lk b xs) := c_F16_get l u (F16.of_kd hF hk) h0 h1
theorem c_G8_from (l : Launch) (u : Mem) {f : Nat} {b : Int} {xs : List (Int × Nat)} (hF : Fn u f xs) (h0 : 0 ≤ b) (h1 : b ≤ 256) (hk : kd_ u f = 8) : Mt_ l yX8_from cX8_from 3 (some .int) 2 0 0 [aR f, aI b] u (qI fun r u' => u = u' ∧ Frm b xs r) := (c_F8_from l u (F8.of_kd hF hk) h0 h1).weak (by omega) (by omega) (by omega) (fun _ _ h => h)
theorem c_G16_from (l : Launch) (u : Mem) {f : Nat} {b : Int} {xs : List (Int × Nat)} (hF : Fn u f xs) (h0 : 0 ≤ b) (h1 : b ≤ 256) (hk : kd_ u f = 16) : Mt_ l yX16_from cX16_from 3 (some .int) 2 0 0 [aR f, aI b] u (qI fun r u' => u = u' ∧ Frm b xs r) := c_F16_from l u (F16.of_kd hF hk) h0 h1
theorem c_G8_upTo (l : Launch) (u : Mem) {f : Nat} {b : Int} {xs : List (Int × Nat)} (hF : Fn u f xs) (h0 : -1 ≤ b) (h1 : b < 256) (hk : kd_ u f = 8) : Mt_ l yX8_upTo cX8_upTo 3 (some .int) 2 0 0 [aR f, aI b] u (qI fun r u' => u = u' ∧ Upt b xs r) := (c_F8_upTo l u (F8.of_kd hF hk) h0 (by omega)).weak (by omega) (by omega) (by omega) (fun _ _ h => h)
theorem c_G16_upTo (l : Launch) (u : Mem) {f : Nat} {b : Int} {xs : List (Int × Nat)} (hF : Fn u f xs) (h0 : -1 ≤ b) (h1 : b < 256) (hk : kd_ u f = 16) : Mt_ l yX16_upTo cX16_upTo 3 (some .int) 2 0 0 [aR f, aI b] u (qI fun r u' => u = u' ∧ Upt b xs r) := c_F16_upTo l u (F16.of_kd hF hk) h0 h1
theorem Fn.k2 {u : Mem} {f : Nat} {xs : List (Int × Nat)} (h : Fn u f xs) : kd_ u f = 8 ∨ kd_ u f = 16 := by
  rcases h with h | h
  · exact Or.inl h.1
  · exact Or.inr h.1
/-! ===== twigs ===== -/
/-- a kid: its byte, its twig, its entries, its cells -/
abbrev Kid : Type := Int × Nat × List Nat × List Nat
def kx (cs : List Kid) : List (Int × Nat) := cs.map (fun c => (c.1, c.2.1))
def ke (cs : List Kid) : List Nat := cs.flatMap (fun c => c.2.2.1)
def kf_ (cs : List Kid) : List Nat := cs.flatMap (fun c => c.2.2.2)
/-- the bytes of a twig's path -/
def pth (u : Mem) (t : Nat) : List Int := seg (iv_ u (rv_ u t 0)) (iv_ u t 1).toNat
def EnO (u : Mem) (e : Nat) (p : List Int) (es : List Nat) : Prop := (e = 0 ∧ es = []) ∨ (En u e ∧ oc u e = p ∧ es = [e])
/-- a twig behind the bytes p -/
def TN (u : Mem) (R : List Int → Nat → List Nat → List Nat → Prop) (rt : Bool) (p : List Int) (t : Nat) (es fp : List Nat) : Prop :=
  kd_ u t = 6 ∧ (kd_ u (rv_ u t 0) = 100 ∧ ln_ u (rv_ u t 0) = 16 ∧ 0 ≤ iv_ u t 1 ∧ iv_ u t 1 ≤ 16 ∧ ∀ x ∈ pth u t, 0 ≤ x ∧ x < 256) ∧ ∃ cs es0, Fn u (rv_ u t 3) (kx cs) ∧ EnO u (rv_ u t 2) (p ++ pth u t) es0 ∧ (∀ c ∈ cs, R (p ++ pth u t ++ [c.1]) c.2.1 c.2.2.1 c.2.2.2) ∧
    es = es0 ++ ke cs ∧ fp = t :: rv_ u t 0 :: (fpF u (rv_ u t 3) ++ kf_ cs) ∧ fp.Nodup ∧ (rt = true ∨ rv_ u t 2 ≠ 0 ∨ 2 ≤ cs.length)
def TT (u : Mem) : Nat → List Int → Nat → List Nat → List Nat → Prop
  | 0, _, _, _, _ => False
  | n + 1, p, t, es, fp => TN u (TT u n) false p t es fp
theorem TT.node {u : Mem} {n t : Nat} {p : List Int} {es fp : List Nat} (h : TT u n p t es fp) : ∃ m, n = m + 1 ∧ TN u (TT u m) false p t es fp := by
  cases n with
  | zero => exact h.elim
  | succ n => exact ⟨n, rfl, h⟩
theorem TT.kd {u : Mem} {n t : Nat} {p : List Int} {es fp : List Nat} (h : TT u n p t es fp) : kd_ u t = 6 := by
  obtain ⟨m, -, h⟩ := h.node
  exact h.1
def K5 (K : Nat) : Prop := K = 6 ∨ K = 8 ∨ K = 16 ∨ K = 100 ∨ K = 103 ∨ K = 105
theorem mem_ke {cs : List Kid} {e : Nat} : e ∈ ke cs ↔ ∃ c ∈ cs, e ∈ c.2.2.1 := by unfold ke; rw [List.mem_flatMap]
theorem mem_kf {cs : List Kid} {a : Nat} : a ∈ kf_ cs ↔ ∃ c ∈ cs, a ∈ c.2.2.2 := by unfold kf_; rw [List.mem_flatMap]
theorem mem_kx {cs : List Kid} {x : Int × Nat} : x ∈ kx cs ↔ ∃ c ∈ cs, (c.1, c.2.1) = x := by unfold kx; rw [List.mem_map]
theorem ke_app (A B : List Kid) : ke (A ++ B) = ke A ++ ke B := List.flatMap_append
theorem kf_app (A B : List Kid) : kf_ (A ++ B) = kf_ A ++ kf_ B := List.flatMap_append
theorem kx_app (A B : List Kid) : kx (A ++ B) = kx A ++ kx B := List.map_append
/-- what a twig's entries and cells are, by what its kids are -/
theorem TN.mem {u : Mem} {R : List Int → Nat → List Nat → List Nat → Prop} {rt : Bool} {p : List Int} {t : Nat} {es fp : List Nat} (h : TN u R rt p t es fp)
    (hR : ∀ p t es fp, R p t es fp → (∀ e ∈ es, En u e ∧ ∃ s, oc u e = p ++ s) ∧ (∀ a ∈ fp, K5 (kd_ u a)) ∧ es ≠ [] ∧ t ∈ fp) :
    (∀ e ∈ es, En u e ∧ ∃ s, oc u e = p ++ s) ∧ (∀ a ∈ fp, K5 (kd_ u a)) ∧ (rt = false → es ≠ []) ∧ t ∈ fp := by
  obtain ⟨kt, ⟨kp, -⟩, cs, es0, hF, he, hc, rfl, rfl, -, hne⟩ := h
  refine ⟨fun e he' => ?_, fun a ha => ?_, fun hrt => ?_, by simp⟩
  · rcases List.mem_append.mp he' with q | q
    · rcases he with ⟨-, rfl⟩ | ⟨h1, h2, rfl⟩
      · simp at q
      · rw [List.mem_singleton.mp q]
        exact ⟨h1, pth u t, h2⟩
    · obtain ⟨c, hcm, hce⟩ := mem_ke.mp q
      obtain ⟨h1, s, h2⟩ := (hR _ _ _ _ (hc c hcm)).1 e hce
      exact ⟨h1, pth u t ++ ([c.1] ++ s), by rw [h2]; simp only [List.append_assoc]⟩
  · simp only [List.mem_cons, List.mem_append] at ha
    rcases ha with rfl | rfl | q | q
    · exact Or.inl kt
    · exact Or.inr (Or.inr (Or.inr (Or.inl kp)))
    · have := hF.kinds a q
      unfold K5; omega
    · obtain ⟨c, hcm, hca⟩ := mem_kf.mp q
      exact (hR _ _ _ _ (hc c hcm)).2.1 a hca
  · subst hrt
    rcases hne with q | q | q
    · cases q
    · rcases he with ⟨h1, -⟩ | ⟨-, -, rfl⟩
      · exact absurd h1 q
      · simp
    · cases cs with
      | nil => simp at q
      | cons c cs =>
        have := (hR _ _ _ _ (hc c List.mem_cons_self)).2.2.1
        intro z
        have := (List.append_eq_nil_iff.mp z).2
        unfold ke at this
        rw [List.flatMap_cons] at this
        exact absurd (List.append_eq_nil_iff.mp this).1 (by assumption)
theorem TT.mem {u : Mem} : ∀ (n : Nat) (p : List Int) (t : Nat) (es fp : List Nat), TT u n p t es fp → (∀ e ∈ es, En u e ∧ ∃ s, oc u e = p ++ s) ∧ (∀ a ∈ fp, K5 (kd_ u a)) ∧ es ≠ [] ∧ t ∈ fp := by
  intro n
  induction n with
  | zero => intro p t es fp h; exact h.elim
  | succ n ih =>
    intro p t es fp h
    have := TN.mem h ih
    exact ⟨this.1, this.2.1, this.2.2.1 rfl, this.2.2.2⟩
theorem TN.frame {u u' : Mem} {R R' : List Int → Nat → List Nat → List Nat → Prop} {rt : Bool} {p : List Int} {t : Nat} {es fp : List Nat} (h : TN u R rt p t es fp) (hf : ∀ a ∈ fp, Sm u u' a) (he : ∀ e ∈ es, En u' e ∧ tx u' e = tx u e)
    (hR : ∀ p t es fp, R p t es fp → (∀ a ∈ fp, Sm u u' a) → (∀ e ∈ es, En u' e ∧ tx u' e = tx u e) → R' p t es fp) : TN u' R' rt p t es fp := by
  obtain ⟨kt, ⟨kp, lp, n0, n1, hpx⟩, cs, es0, hF, hen, hc, rfl, rfl, hnd, hne⟩ := h
  have st := hf t (by simp)
  have sp := hf (rv_ u t 0) (by simp)
  have e0 : rv_ u' t 0 = rv_ u t 0 := st.2.2.2 0
  have e1 : iv_ u' t 1 = iv_ u t 1 := st.2.2.1 1
  have e2 : rv_ u' t 2 = rv_ u t 2 := st.2.2.2 2
  have e3 : rv_ u' t 3 = rv_ u t 3 := st.2.2.2 3
  have ep : pth u' t = pth u t := by
    unfold pth
    rw [e0, e1]
    exact seg_ext (fun j _ _ => sp.2.2.1 j)
  obtain ⟨hF', hfp'⟩ := hF.same (v := u') (fun a ha => hf a (by simp [ha]))
  refine ⟨by rw [st.1]; exact kt, ⟨by rw [e0, sp.1]; exact kp, by rw [e0, sp.2.1]; exact lp, by rw [e1]; exact n0, by rw [e1]; exact n1, by rw [ep]; exact hpx⟩, cs, es0, by rw [e3]; exact hF', ?_, fun c hcm => ?_, rfl, by rw [e0, e3, hfp'], hnd, by rw [e2]; exact hne⟩
  · rw [e2, ep]
    rcases hen with h | ⟨h1, h2, rfl⟩
    · exact Or.inl h
    · have := he (rv_ u t 2) (by simp)
      exact Or.inr ⟨this.1, by unfold oc; rw [this.2]; exact h2, rfl⟩
  · rw [ep]
    exact hR _ _ _ _ (hc c hcm) (fun a ha => hf a (by simp [mem_kf.mpr ⟨c, hcm, ha⟩])) (fun e h => he e (by simp [mem_ke.mpr ⟨c, hcm, h⟩]))
theorem TT.frame {u u' : Mem} : ∀ (n : Nat) (p : List Int) (t : Nat) (es fp : List Nat), TT u n p t es fp → (∀ a ∈ fp, Sm u u' a) → (∀ e ∈ es, En u' e ∧ tx u' e = tx u e) → TT u' n p t es fp := by
  intro n
  induction n with
  | zero => intro p t es fp h; exact h.elim
  | succ n ih => intro p t es fp h hf he; exact TN.frame (R' := TT u' n) h hf he ih
theorem TN.mono {u : Mem} {R R' : List Int → Nat → List Nat → List Nat → Prop} {rt : Bool} {p : List Int} {t : Nat} {es fp : List Nat} (h : TN u R rt p t es fp) (hR : ∀ p' t es fp, p.length < p'.length → R p' t es fp → R' p' t es fp) : TN u R' rt p t es fp := by
  obtain ⟨kt, kp, cs, es0, hF, hen, hc, h⟩ := h
  exact ⟨kt, kp, cs, es0, hF, hen, fun c hcm => hR _ _ _ _ (by simp) (hc c hcm), h⟩
theorem TT.mono {u : Mem} : ∀ (n m : Nat) (p : List Int) (t : Nat) (es fp : List Nat), TT u n p t es fp → n ≤ m → TT u m p t es fp := by
  intro n
  induction n with
  | zero => intro m p t es fp h; exact h.elim
  | succ n ih =>
    intro m p t es fp h hm
    obtain ⟨m, rfl⟩ : ∃ k, m = k + 1 := ⟨m - 1, by omega⟩
    exact TN.mono (R' := TT u m) h (fun p' t es fp _ h => ih _ _ _ _ _ h (by omega))
/-- the height is bounded by the bytes that are left -/
theorem TT.fit {u : Mem} : ∀ (n : Nat) (p : List Int) (t : Nat) (es fp : List Nat), TT u n p t es fp → TT u (17 - p.length) p t es fp ∧ p.length ≤ 16 := by
  intro n
  induction n with
  | zero => intro p t es fp h; exact h.elim
  | succ n ih =>
    intro p t es fp h
    have hm := TT.mem _ _ _ _ _ h
    obtain ⟨e, he⟩ := List.exists_mem_of_ne_nil _ hm.2.2.1
    obtain ⟨he, s, hs⟩ := hm.1 e he
    have hl := he.1.oc_len.2
    rw [hs, List.length_append] at hl
    refine ⟨?_, by omega⟩
    rw [show 17 - p.length = (16 - p.length) + 1 by omega]
    refine TN.mono (R' := TT u (16 - p.length)) h (fun p' t es fp hp h => ?_)
    exact TT.mono _ _ _ _ _ _ (ih _ _ _ _ h).1 (by omega)
/-! order -/
theorem TN.order {u : Mem} {R : List Int → Nat → List Nat → List Nat → Prop} {p : List Int} {t : Nat} {es0 : List Nat} {cs : List Kid} (he : EnO u (rv_ u t 2) (p ++ pth u t) es0) (hs : Srt (kx cs)) (hc : ∀ c ∈ cs, R (p ++ pth u t ++ [c.1]) c.2.1 c.2.2.1 c.2.2.2)
    (hR : ∀ p t es fp, R p t es fp → (∀ e ∈ es, En u e ∧ ∃ s, oc u e = p ++ s) ∧ es.Pairwise (fun x y => tx u x < tx u y)) : (es0 ++ ke cs).Pairwise (fun x y => tx u x < tx u y) := by
  have hk : ∀ c ∈ cs, ∀ e ∈ c.2.2.1, En u e ∧ ∃ s, oc u e = (p ++ pth u t) ++ c.1 :: s := fun c hcm e hce => by
    obtain ⟨h1, s, h2⟩ := (hR _ _ _ _ (hc c hcm)).1 e hce
    exact ⟨h1, s, by rw [h2]; simp⟩
  refine List.pairwise_append.mpr ⟨?_, ?_, fun x hx y hy => ?_⟩
  · rcases he with ⟨-, rfl⟩ | ⟨-, -, rfl⟩
    · exact List.Pairwise.nil
    · simp
  · clear he
    induction cs with
    | nil => exact List.Pairwise.nil
    | cons c cs ih =>
      have hp := List.pairwise_cons.mp hs.1
      show (c.2.2.1 ++ ke cs).Pairwise _
      refine List.pairwise_append.mpr ⟨(hR _ _ _ _ (hc c List.mem_cons_self)).2, ih ⟨hp.2, fun x hx => hs.2 x (List.mem_cons_of_mem _ hx)⟩ (fun d hd => hc d (List.mem_cons_of_mem _ hd)) (fun d hd => hk d (List.mem_cons_of_mem _ hd)), fun x hx y hy => ?_⟩
      obtain ⟨d, hd, hyd⟩ := mem_ke.mp hy
      obtain ⟨e1, s1, o1⟩ := hk c List.mem_cons_self x hx
      obtain ⟨e2, s2, o2⟩ := hk d (List.mem_cons_of_mem _ hd) y hyd
      rw [e1.1.oc_lt e2.1, o1, o2]
      exact lt_app _ (lt_hd (hp.1 (d.1, d.2.1) (mem_kx.mpr ⟨d, hd, rfl⟩)) _ _)
  · rcases he with ⟨-, rfl⟩ | ⟨h1, h2, rfl⟩
    · simp at hx
    · rw [List.mem_singleton.mp hx]
      obtain ⟨d, hd, hyd⟩ := mem_ke.mp hy
      obtain ⟨e2, s2, o2⟩ := hk d hd y hyd
      rw [h1.1.oc_lt e2.1, h2, o2]
      have := lt_app (p ++ pth u t) (lt_nil d.1 s2)
      rw [List.append_nil] at this
      exact this
theorem TT.sorted {u : Mem} : ∀ (n : Nat) (p : List Int) (t : Nat) (es fp : List Nat), TT u n p t es fp → es.Pairwise (fun x y => tx u x < tx u y) := by
  intro n
  induction n with
  | zero => intro p t es fp h; exact h.elim
  | succ n ih =>
    intro p t es fp h
    obtain ⟨-, -, cs, es0, hF, he, hc, rfl, -⟩ := h
    exact TN.order he hF.srt hc (fun p t es fp h => ⟨(TT.mem _ _ _ _ _ h).1, ih _ _ _ _ h⟩)
theorem TR.sorted {u : Mem} {n : Nat} {rt : Bool} {p : List Int} {t : Nat} {es fp : List Nat} (h : TN u (TT u n) rt p t es fp) : es.Pairwise (fun x y => tx u x < tx u y) := by
  obtain ⟨-, -, cs, es0, hF, he, hc, rfl, -⟩ := h
  exact TN.order he hF.srt hc (fun p t es fp h => ⟨(TT.mem _ _ _ _ _ h).1, TT.sorted _ _ _ _ _ h⟩)
theorem TR.mem {u : Mem} {n : Nat} {rt : Bool} {p : List Int} {t : Nat} {es fp : List Nat} (h : TN u (TT u n) rt p t es fp) : (∀ e ∈ es, En u e ∧ ∃ s, oc u e = p ++ s) ∧ (∀ a ∈ fp, K5 (kd_ u a)) ∧ (rt = false → es ≠ []) ∧ t ∈ fp := TN.mem h (TT.mem n)
theorem kx_len (cs : List Kid) : (kx cs).length = cs.length := by unfold kx; simp
/-- the first kid, as from(0) and get find it -/
theorem kid_first {cs : List Kid} (hs : Srt (kx cs)) {r : Int} (h : Frm 0 (kx cs) r) : (cs = [] ∧ r = -1) ∨ ∃ c cs', cs = c :: cs' ∧ r = c.1 ∧ lk r (kx cs) = c.2.1 := by
  cases cs with
  | nil =>
    rcases h with ⟨h1, -⟩ | ⟨A, x, B, h1, -⟩
    · exact Or.inl ⟨rfl, h1⟩
    · unfold kx at h1; simp at h1
  | cons c cs =>
    refine Or.inr ⟨c, cs, rfl, ?_⟩
    have hc := hs.2 (c.1, c.2.1) (mem_kx.mpr ⟨c, List.mem_cons_self, rfl⟩)
    have hr : r = c.1 := by
      rcases h with ⟨-, h2⟩ | ⟨A, x, B, h1, h2, h3, h4⟩
      · have := h2 (c.1, c.2.1) (mem_kx.mpr ⟨c, List.mem_cons_self, rfl⟩)
        simp only at this hc
        omega
      · cases A with
        | nil => unfold kx at h1; simp at h1; rw [h2, ← h1.1]
        | cons a A =>
          have e : a = (c.1, c.2.1) := by unfold kx at h1; simp at h1; exact h1.1.symm
          have := h4 a List.mem_cons_self
          rw [e] at this
          simp only at this hc
          omega
    exact ⟨hr, by rw [hr]; exact lk_of hs (mem_kx.mpr ⟨c, List.mem_cons_self, rfl⟩)⟩
theorem kid_last {cs : List Kid} (hs : Srt (kx cs)) {r : Int} (h : Upt 255 (kx cs) r) : (cs = [] ∧ r = -1) ∨ ∃ c cs', cs = cs' ++ [c] ∧ r = c.1 ∧ lk r (kx cs) = c.2.1 := by
  rcases List.eq_nil_or_concat cs with rfl | ⟨cs', c, hcs⟩
  · rcases h with ⟨h1, -⟩ | ⟨A, x, B, h1, -⟩
    · exact Or.inl ⟨rfl, h1⟩
    · unfold kx at h1; simp at h1
  · rw [List.concat_eq_append] at hcs
    refine Or.inr ⟨c, cs', hcs, ?_⟩
    have hcm : (c.1, c.2.1) ∈ kx cs := mem_kx.mpr ⟨c, by rw [hcs]; simp, rfl⟩
    have hc := hs.2 (c.1, c.2.1) hcm
    have hr : r = c.1 := by
      rcases h with ⟨-, h2⟩ | ⟨A, x, B, h1, h2, h3, h4⟩
      · have := h2 (c.1, c.2.1) hcm
        simp only at this hc
        omega
      · rcases List.eq_nil_or_concat B with rfl | ⟨B', b, hB⟩
        · rw [hcs, kx_app] at h1
          have := congrArg List.getLast? h1
          unfold kx at this
          simp at this
          rw [h2, ← this]
        · rw [List.concat_eq_append] at hB
          subst hB
          rw [hcs, kx_app] at h1
          have := congrArg List.getLast? h1
          unfold kx at this
          simp at this
          have := h4 b (by simp)
          have hb : b.1 < 256 := (hs.2 b (by rw [hcs, kx_app, h1]; simp)).2.1
          omega
    exact ⟨hr, by rw [hr]; exact lk_of hs hcm⟩
theorem c_T_first (l : Launch) (u : Mem) {n t : Nat} {rt : Bool} {p : List Int} {es fp : List Nat} (h : TN u (TT u n) rt p t es fp) (hes : es ≠ []) : Mt_ l yX6_first cX6_first 2 (some (.object "KeyHall$Entry")) 3 0 0 [aR t] u (qR fun r u' => u = u' ∧ es.head? = some r) := by
  refine Mt_of (by decide) (Nat.le_of_ble_eq_true rfl) (fun X ho hX hN hI => ?_)
  subst hX
  show Z X 0 [some (aR t), none] [] u 0 0
  refine z_wf (fun hw => ?_)
  refine z_aload_n ho dX6_first_0 rfl ?_
  refine z_astore_n ho dX6_first_1 (Nat.le_of_ble_eq_true rfl) rfl ?_
  have key : ∀ (n t' : Nat) (rt : Bool) (p : List Int) (es' fp' : List Nat), TN u (TT u n) rt p t' es' fp' → es' ≠ [] → es.head? = es'.head? → Z X 2 [some (aR t), some (aR t')] [] u 0 0 := by
    intro n
    induction n with
    | zero =>
      intro t' rt p es' fp' h hne hh
      obtain ⟨kt, -, cs, es0, hF, he, hc, rfl, -⟩ := h
      have hcs : cs = [] := List.eq_nil_iff_forall_not_mem.mpr (fun c hcm => (hc c hcm).elim)
      subst hcs
      refine z_aload_n ho dX6_first_2 rfl ?_
      refine gX6_37 ho dX6_first_3 kt ?_
      refine z_ifnonnull (tgt := 28) ho dX6_first_6 (by decide) (fun c6 => ?_) (fun c6 => ?_)
      · 
        refine z_aload_n ho dX6_first_28 rfl ?_
        refine gX6_37 ho dX6_first_29 kt ?_
        refine r_R ho dX6_first_32 (Nat.le_of_ble_eq_true rfl) (Nat.le_of_ble_eq_true rfl) ?_
        rcases he with ⟨h0, -⟩ | ⟨-, -, rfl⟩
        · exact absurd h0 c6
        · exact ⟨rfl, hh⟩
      · rcases he with ⟨-, rfl⟩ | ⟨h0, -⟩
        · exact absurd rfl hne
        · exact absurd c6 (h0.ne0 hw)
    | succ n ih =>
      intro t' rt p es' fp' h hne hh
      obtain ⟨kt, -, cs, es0, hF, he, hc, rfl, -⟩ := h
      refine z_aload_n ho dX6_first_2 rfl ?_
      refine gX6_37 ho dX6_first_3 kt ?_
      refine z_ifnonnull (tgt := 28) ho dX6_first_6 (by decide) (fun c6 => ?_) (fun c6 => ?_)
      · 
        refine z_aload_n ho dX6_first_28 rfl ?_
        refine gX6_37 ho dX6_first_29 kt ?_
        refine r_R ho dX6_first_32 (Nat.le_of_ble_eq_true rfl) (Nat.le_of_ble_eq_true rfl) ?_
        rcases he with ⟨h0, -⟩ | ⟨-, -, rfl⟩
        · exact absurd h0 c6
        · exact ⟨rfl, hh⟩
      · have e0 : es0 = [] := by
          rcases he with ⟨-, h0⟩ | ⟨h0, -⟩
          · exact h0
          · exact absurd c6 (h0.ne0 hw)
        subst e0
        refine z_aload_n ho dX6_first_9 rfl ?_
        refine gX6_18 ho dX6_first_10 kt ?_
        refine z_aload_n ho dX6_first_13 rfl ?_
        refine gX6_18 ho dX6_first_14 kt ?_
        refine z_iconst ho dX6_first_17 ?_
        refine or_call (hF.k2) (fun hq cc => kX6_49_8 ho hN (c_G8_from _ _ hF (by omega) (by omega) hq) dX6_first_18 hq (Nat.le_of_ble_eq_true rfl) (Nat.le_of_ble_eq_true rfl) (Nat.le_of_ble_eq_true rfl) (Nat.le_of_ble_eq_true rfl) cc) (fun hq cc => kX6_49_16 ho hN (c_G16_from _ _ hF (by omega) (by omega) hq) dX6_first_18 hq (Nat.le_of_ble_eq_true rfl) (Nat.le_of_ble_eq_true rfl) (Nat.le_of_ble_eq_true rfl) (Nat.le_of_ble_eq_true rfl) cc) (fun x18 u18 h18 => ?_)
        obtain ⟨rfl, hfr⟩ := h18
        rcases kid_first hF.srt hfr with ⟨rfl, -⟩ | ⟨c, cs', rfl, hr, hlk⟩
        · exact absurd rfl hne
        have hcr := hF.srt.2 (c.1, c.2.1) (mem_kx.mpr ⟨c, List.mem_cons_self, rfl⟩)
        simp only at hcr
        refine or_call (hF.k2) (fun hq cc => kX6_54_8 ho hN (c_G8_get _ _ hF (by omega) (by omega) hq) dX6_first_21 hq (Nat.le_of_ble_eq_true rfl) (Nat.le_of_ble_eq_true rfl) (Nat.le_of_ble_eq_true rfl) (Nat.le_of_ble_eq_true rfl) cc) (fun hq cc => kX6_54_16 ho hN (c_G16_get _ _ hF (by omega) (by omega) hq) dX6_first_21 hq (Nat.le_of_ble_eq_true rfl) (Nat.le_of_ble_eq_true rfl) (Nat.le_of_ble_eq_true rfl) (Nat.le_of_ble_eq_true rfl) cc) (fun x21 u21 h21 => ?_)
        obtain ⟨rfl, rfl⟩ := h21
        refine z_astore_n ho dX6_first_24 (Nat.le_of_ble_eq_true rfl) rfl ?_
        refine z_goto (tgt := 2) ho dX6_first_25 (by decide) ?_
        rw [hlk]
        have hcc := hc c List.mem_cons_self
        have hne2 := (TT.mem _ _ _ _ _ hcc).2.2.1
        refine ih _ _ _ _ _ hcc hne2 ?_
        rw [hh]
        show (c.2.2.1 ++ ke cs').head? = _
        cases hq : c.2.2.1 with
        | nil => exact absurd hq hne2
        | cons x l => rfl
  exact key n t rt p es fp h hes rfl
theorem Srt.len {xs : List (Int × Nat)} (hs : Srt xs) : xs.length ≤ 256 := by
  have := nd_sub (xs.map (fun x => x.1.toNat)) (List.range 256) ?_ (fun k hk => by
    obtain ⟨x, hx, rfl⟩ := List.mem_map.mp hk
    have := hs.2 x hx
    exact List.mem_range.mpr (by omega))
  · simpa using this
  · refine List.pairwise_map.mpr ((List.Pairwise.and_mem.mp hs.1).imp (fun {a b} h => ?_))
    have h1 := hs.2 a h.1
    have h2 := hs.2 b h.2.1
    have := h.2.2
    omega
theorem c_T_last (l : Launch) (u : Mem) {n t : Nat} {rt : Bool} {p : List Int} {es fp : List Nat} (h : TN u (TT u n) rt p t es fp) (hes : es ≠ []) : Mt_ l yX6_last cX6_last 2 (some (.object "KeyHall$Entry")) 3 0 0 [aR t] u (qR fun r u' => u = u' ∧ es.getLast? = some r) := by
  refine Mt_of (by decide) (Nat.le_of_ble_eq_true rfl) (fun X ho hX hN hI => ?_)
  subst hX
  show Z X 0 [some (aR t), none] [] u 0 0
  refine z_wf (fun hw => ?_)
  refine z_aload_n ho dX6_last_0 rfl ?_
  refine z_astore_n ho dX6_last_1 (Nat.le_of_ble_eq_true rfl) rfl ?_
  have key : ∀ (n t' : Nat) (rt : Bool) (p : List Int) (es' fp' : List Nat), TN u (TT u n) rt p t' es' fp' → es' ≠ [] → es.getLast? = es'.getLast? → Z X 2 [some (aR t), some (aR t')] [] u 0 0 := by
    intro n
    have fin : ∀ (t' : Nat) (p : List Int) (es0 : List Nat), kd_ u t' = 6 → EnO u (rv_ u t' 2) p es0 → es0 ≠ [] → es.getLast? = es0.getLast? → Z X 33 [some (aR t), some (aR t')] [] u 0 0 := by
      intro t' p es0 kt he hne hh
      refine z_aload_n ho dX6_last_33 rfl ?_
      refine gX6_37 ho dX6_last_34 kt ?_
      refine r_R ho dX6_last_37 (Nat.le_of_ble_eq_true rfl) (Nat.le_of_ble_eq_true rfl) ?_
      rcases he with ⟨-, rfl⟩ | ⟨-, -, rfl⟩
      · exact absurd rfl hne
      · exact ⟨rfl, hh⟩
    induction n with
    | zero =>
      intro t' rt p es' fp' h hne hh
      obtain ⟨kt, -, cs, es0, hF, he, hc, rfl, -⟩ := h
      have hcs : cs = [] := List.eq_nil_iff_forall_not_mem.mpr (fun c hcm => (hc c hcm).elim)
      subst hcs
      have hsz := hF.size
      refine z_aload_n ho dX6_last_2 rfl ?_
      refine gX6_18 ho dX6_last_3 kt ?_
      refine gX6_58 ho dX6_last_6 hF.isF ?_
      refine z_if_le (tgt := 33) ho dX6_last_9 (by decide) (by rw [hsz]; unfold kx rng; simp) (fun c9 => ?_) (fun c9 => ?_)
      · simp only [ke, List.flatMap_nil, List.append_nil] at hne hh
        exact fin t' _ es0 kt he hne hh
      · rw [hsz] at c9; unfold kx at c9; simp at c9
    | succ n ih =>
      intro t' rt p es' fp' h hne hh
      obtain ⟨kt, -, cs, es0, hF, he, hc, rfl, -⟩ := h
      have hsz := hF.size
      have hb := hF.srt
      have hl := hb.len
      refine z_aload_n ho dX6_last_2 rfl ?_
      refine gX6_18 ho dX6_last_3 kt ?_
      refine gX6_58 ho dX6_last_6 hF.isF ?_
      refine z_if_le (tgt := 33) ho dX6_last_9 (by decide) (by rw [hsz]; unfold rng; omega) (fun c9 => ?_) (fun c9 => ?_)
      · rw [hsz, kx_len] at c9
        have hcs : cs = [] := List.eq_nil_of_length_eq_zero (by omega)
        subst hcs
        simp only [ke, List.flatMap_nil, List.append_nil] at hne hh
        exact fin t' _ es0 kt he hne hh
      · rw [hsz, kx_len] at c9
        refine z_aload_n ho dX6_last_12 rfl ?_
        refine gX6_18 ho dX6_last_13 kt ?_
        refine z_aload_n ho dX6_last_16 rfl ?_
        refine gX6_18 ho dX6_last_17 kt ?_
        refine z_sipush ho dX6_last_20 rfl ?_
        refine or_call (hF.k2) (fun hq cc => kX6_61_8 ho hN (c_G8_upTo _ _ hF (by omega) (by omega) hq) dX6_last_23 hq (Nat.le_of_ble_eq_true rfl) (Nat.le_of_ble_eq_true rfl) (Nat.le_of_ble_eq_true rfl) (Nat.le_of_ble_eq_true rfl) cc) (fun hq cc => kX6_61_16 ho hN (c_G16_upTo _ _ hF (by omega) (by omega) hq) dX6_last_23 hq (Nat.le_of_ble_eq_true rfl) (Nat.le_of_ble_eq_true rfl) (Nat.le_of_ble_eq_true rfl) (Nat.le_of_ble_eq_true rfl) cc) (fun x23 u23 h23 => ?_)
        obtain ⟨rfl, hfr⟩ := h23
        rcases kid_last hF.srt hfr with ⟨rfl, -⟩ | ⟨c, cs', rfl, hr, hlk⟩
        · simp at c9
        have hcr := hF.srt.2 (c.1, c.2.1) (mem_kx.mpr ⟨c, by simp, rfl⟩)
        simp only at hcr
        refine or_call (hF.k2) (fun hq cc => kX6_54_8 ho hN (c_G8_get _ _ hF (by omega) (by omega) hq) dX6_last_26 hq (Nat.le_of_ble_eq_true rfl) (Nat.le_of_ble_eq_true rfl) (Nat.le_of_ble_eq_true rfl) (Nat.le_of_ble_eq_true rfl) cc) (fun hq cc => kX6_54_16 ho hN (c_G16_get _ _ hF (by omega) (by omega) hq) dX6_last_26 hq (Nat.le_of_ble_eq_true rfl) (Nat.le_of_ble_eq_true rfl) (Nat.le_of_ble_eq_true rfl) (Nat.le_of_ble_eq_true rfl) cc) (fun x26 u26 h26 => ?_)
        obtain ⟨rfl, rfl⟩ := h26
        refine z_astore_n ho dX6_last_29 (Nat.le_of_ble_eq_true rfl) rfl ?_
        refine z_goto (tgt := 2) ho dX6_last_30 (by decide) ?_
        rw [hlk]
        have hcc := hc c (by simp)
        have hne2 := (TT.mem _ _ _ _ _ hcc).2.2.1
        refine ih _ _ _ _ _ hcc hne2 ?_
        have e : ke (cs' ++ [c]) = ke cs' ++ c.2.2.1 := by rw [ke_app]; simp [ke]
        rw [hh, e]
        simp only [List.getLast?_append]
        cases hq : c.2.2.1.getLast? with
        | none => exact absurd (List.getLast?_eq_none_iff.mp hq) hne2
        | some x => rfl
  exact key n t rt p es fp h hes rfl
/-! ===== common ===== -/
theorem Ky.oc_at {u : Mem} {k : Nat} {p q : List Int} {c : Int} (hk : Ky u k) (h : oc u k = p ++ c :: q) : octL (tx u k) (p.length : Int) = c ∧ (p.length : Int) < 2 * ((tx u k).length : Int) ∧ 0 ≤ c ∧ c < 256 := by
  have hl := hk.oc_len.1
  rw [h] at hl
  simp at hl
  have := ocL_get (tx u k) (p.length : Int) (by omega) (by omega)
  rw [show ocL (tx u k) = p ++ c :: q from h] at this
  simp at this
  have hr := ocL_rng hk.Tx c (by rw [show ocL (tx u k) = p ++ c :: q from h]; simp)
  exact ⟨this.symm, by omega, hr⟩
theorem pth_len {u : Mem} {t : Nat} (h : 0 ≤ iv_ u t 1) : ((pth u t).length : Int) = iv_ u t 1 := by unfold pth; rw [seg_len]; omega
theorem pth_get {u : Mem} {t : Nat} {A B : List Int} {b : Int} (h : pth u t = A ++ b :: B) : iv_ u (rv_ u t 0) (A.length : Int) = b := by
  have h1 : (pth u t)[A.length]? = some b := by rw [h]; simp
  unfold pth at h1
  have h2 : A.length < (iv_ u t 1).toNat := by
    have := (List.getElem?_eq_some_iff.mp h1).1
    rwa [seg_len] at this
  rw [seg_get h2] at h1
  cases h1
  rfl
theorem c_common (l : Launch) (u : Mem) {t k : Nat} {p q : List Int} {fr : Int} (kt : kd_ u t = 6) (hp : kd_ u (rv_ u t 0) = 100 ∧ ln_ u (rv_ u t 0) = 16 ∧ 0 ≤ iv_ u t 1 ∧ iv_ u t 1 ≤ 16 ∧ ∀ x ∈ pth u t, 0 ≤ x ∧ x < 256) (hk : Ky u k) (ho' : oc u k = p ++ q) (hfr : fr = p.length) :
    Mt_ l yX6_common cX6_common 4 (some .int) 1 0 0 [aR t, aR k, aI fr] u (qI fun r u' => u = u' ∧ ∃ A B C, pth u t = A ++ B ∧ q = A ++ C ∧ r = A.length ∧ (B = [] ∨ C = [] ∨ ∃ b B' c C', B = b :: B' ∧ C = c :: C' ∧ b ≠ c)) := by
  obtain ⟨kp, lp, n0, n1, hpx⟩ := hp
  have hpl := pth_len n0
  have hol := hk.oc_len
  rw [ho', List.length_append] at hol
  subst hfr
  refine Mt_of (by decide) (Nat.le_of_ble_eq_true rfl) (fun X ho hX hN hI => ?_)
  subst hX
  show Z X 0 [some (aR t), some (aR k), some (aI  (p.length:Int)), none] [] u 0 0
  refine z_iconst ho dX6_common_0 ?_
  refine z_istore_n ho dX6_common_1 (Nat.le_of_ble_eq_true rfl) rfl ?_
  have key : ∀ (B A C : List Int), pth u t = A ++ B → q = A ++ C → Z X 2 [some (aR t), some (aR k), some (aI (p.length : Int)), some (aI (A.length : Int))] [] u 0 0 := by
    intro B
    induction B with
    | nil =>
      intro A C h1 h2
      rw [h1] at hpl
      simp at hpl
      refine z_iload_n ho dX6_common_2 rfl ?_
      refine z_aload_n ho dX6_common_3 rfl ?_
      refine gX6_29 ho dX6_common_4 kt ?_
      refine z_icmp_ge (tgt := 42) ho dX6_common_7 (by decide) (by unfold rng; omega) (by unfold rng; omega) (fun c7 => ?_) (fun c7 => ?_)
      · 
        refine z_iload_n ho dX6_common_42 rfl ?_
        refine r_I ho dX6_common_43 (Nat.le_of_ble_eq_true rfl) (Nat.le_of_ble_eq_true rfl) ?_
        exact ⟨rfl, A, [], C, h1, h2, rfl, Or.inl rfl⟩
      · omega
    | cons b B ih =>
      intro A C h1 h2
      have hpl' := hpl
      rw [h1] at hpl'
      simp at hpl'
      have hbr := hpx b (by rw [h1]; simp)
      have hg := pth_get h1
      rw [h2, List.length_append] at hol
      refine z_iload_n ho dX6_common_2 rfl ?_
      refine z_aload_n ho dX6_common_3 rfl ?_
      refine gX6_29 ho dX6_common_4 kt ?_
      refine z_icmp_ge (tgt := 42) ho dX6_common_7 (by decide) (by unfold rng; omega) (by unfold rng; omega) (fun c7 => ?_) (fun c7 => ?_)
      · omega
      · 
        refine z_iload_n ho dX6_common_10 rfl ?_
        refine z_iload_n ho dX6_common_11 rfl ?_
        refine z_iadd ho dX6_common_12 ?_
        refine z_aload_n ho dX6_common_13 rfl ?_
        refine kX6_41 ho hN (c_bytes _ _ hk) dX6_common_14 hk.1 (Nat.le_of_ble_eq_true rfl) (Nat.le_of_ble_eq_true rfl) (Nat.le_of_ble_eq_true rfl) (Nat.le_of_ble_eq_true rfl) (fun x14 u14 h14 => ?_)
        obtain ⟨rfl, rfl⟩ := h14
        refine z_icmp_ge (tgt := 42) ho dX6_common_17 (by decide) (by unfold rng; omega) (by unfold rng; omega) (fun c17 => ?_) (fun c17 => ?_)
        · have hC : C = [] := List.eq_nil_of_length_eq_zero (by omega)
          refine z_iload_n ho dX6_common_42 rfl ?_
          refine r_I ho dX6_common_43 (Nat.le_of_ble_eq_true rfl) (Nat.le_of_ble_eq_true rfl) ?_
          exact ⟨rfl, A, b :: B, C, h1, h2, rfl, Or.inr (Or.inl hC)⟩
        · cases C with
          | nil => simp at hol; omega
          | cons c C =>
            have hat := hk.oc_at (p := p ++ A) (c := c) (q := C) (by rw [ho', h2]; simp)
            rw [List.length_append] at hat
            have e : (p.length : Int) + (A.length : Int) = ((p.length + A.length : Nat) : Int) := by omega
            rw [← e] at hat
            refine z_aload_n ho dX6_common_20 rfl ?_
            refine gX6_9 ho dX6_common_21 kt ?_
            refine z_iload_n ho dX6_common_24 rfl ?_
            refine z_iald ho dX6_common_25 kp (by omega) (by omega) ?_
            rw [hg]
            refine z_aload_n ho dX6_common_26 rfl ?_
            refine z_iload_n ho dX6_common_27 rfl ?_
            refine z_iload_n ho dX6_common_28 rfl ?_
            refine z_iadd ho dX6_common_29 ?_
            refine kX6_44 ho hN (c_octet _ _ hk (by omega) hat.2.1) dX6_common_30 hk.1 (Nat.le_of_ble_eq_true rfl) (Nat.le_of_ble_eq_true rfl) (Nat.le_of_ble_eq_true rfl) (Nat.le_of_ble_eq_true rfl) (fun x30 u30 h30 => ?_)
            obtain ⟨rfl, rfl⟩ := h30
            refine z_icmp_ne (tgt := 42) ho dX6_common_33 (by decide) (by unfold rng; omega) (by rw [hat.1]; unfold rng; omega) (fun c33 => ?_) (fun c33 => ?_)
            · rw [hat.1] at c33
              refine z_iload_n ho dX6_common_42 rfl ?_
              refine r_I ho dX6_common_43 (Nat.le_of_ble_eq_true rfl) (Nat.le_of_ble_eq_true rfl) ?_
              exact ⟨rfl, A, b :: B, c :: C, h1, h2, rfl, Or.inr (Or.inr ⟨b, B, c, C, rfl, rfl, c33⟩)⟩
            · rw [hat.1] at c33
              subst c33
              refine z_iinc ho dX6_common_36 rfl rfl ?_
              refine z_goto (tgt := 2) ho dX6_common_39 (by decide) ?_
              have := ih (A ++ [b]) C (by rw [h1]; simp) (by rw [h2]; simp)
              rw [List.length_append] at this
              exact this
  exact key (pth u t) [] q rfl rfl
