set_option maxRecDepth 100000
/-! ===== what is known of any memory that a heap holds ===== -/
def Wf (u : Mem) : Prop := (∀ a, kd_ u a ≠ 0 → a < sz_ u ∧ a ≠ 0) ∧ (∀ a, 100 ≤ kd_ u a → 0 ≤ ln_ u a ∧ ln_ u a < 2147483648) ∧ 0 < sz_ u
theorem z_wf {X : Ctx_} {pc : Nat} {ls : List (Option AV)} {st : List AV} {u : Mem} {cu su : Nat} (k : Wf u → Z X pc ls st u cu su) : Z X pc ls st u cu su := by
  obtain ⟨p, l, e, R, s, m, args, below, meth, c, D, B, F⟩ := X
  intro H locs la hR hS hL
  refine k ⟨fun a ha => hR.lt ha, fun a ha => ?_, by rw [hR.1]; omega⟩ H locs la hR hS hL
  cases a with
  | zero => rw [hR.2.1] at ha; omega
  | succ a =>
    rcases (hR.2.2.1 a (by omega)).2 with ⟨h, -⟩ | ⟨-, h1, h2, -⟩
    · omega
    · exact ⟨h1, h2⟩
/-- the cell a is the same -/
def Sm (u u' : Mem) (a : Nat) : Prop := kd_ u' a = kd_ u a ∧ ln_ u' a = ln_ u a ∧ (∀ i, iv_ u' a i = iv_ u a i) ∧ (∀ i, rv_ u' a i = rv_ u a i)
theorem Sm.rf (u : Mem) (a : Nat) : Sm u u a := ⟨rfl, rfl, fun _ => rfl, fun _ => rfl⟩
theorem Sm.tr {u v w : Mem} {a : Nat} (h : Sm u v a) (h' : Sm v w a) : Sm u w a := ⟨h'.1.trans h.1, h'.2.1.trans h.2.1, fun i => (h'.2.2.1 i).trans (h.2.2.1 i), fun i => (h'.2.2.2 i).trans (h.2.2.2 i)⟩
theorem Sm.wI {u : Mem} {a b : Nat} {i x : Int} (h : b ≠ a) : Sm u (wI_ u a i x) b := ⟨rfl, rfl, fun j => by rw [iv_wI, if_neg (fun q => h q.1)], fun _ => rfl⟩
theorem Sm.wR {u : Mem} {a b : Nat} {i : Int} {x : Nat} (h : b ≠ a) : Sm u (wR_ u a i x) b := ⟨rfl, rfl, fun _ => rfl, fun j => by rw [rv_wR, if_neg (fun q => h q.1)]⟩
theorem Sm.al {u : Mem} {K b : Nat} {n : Int} (h : b ≠ sz_ u) : Sm u (al_ u K n) b := ⟨by rw [kd_al, if_neg h], by rw [ln_al, if_neg h], fun j => by rw [iv_al, if_neg h], fun j => by rw [rv_al, if_neg h]⟩
/-- u' is u with new cells behind it, and changes in cells of P alone -/
def Ex (P : Nat → Prop) (u u' : Mem) : Prop := sz_ u ≤ sz_ u' ∧ ∀ a, a < sz_ u → ¬ P a → Sm u u' a
theorem Ex.rf (P : Nat → Prop) (u : Mem) : Ex P u u := ⟨Nat.le_refl _, fun a _ _ => Sm.rf u a⟩
theorem Ex.tr {P : Nat → Prop} {u v w : Mem} (h : Ex P u v) (h' : Ex P v w) : Ex P u w := ⟨Nat.le_trans h.1 h'.1, fun a h1 h2 => (h.2 a h1 h2).tr (h'.2 a (Nat.lt_of_lt_of_le h1 h.1) h2)⟩
theorem Ex.mono {P P' : Nat → Prop} {u v : Mem} (h : Ex P u v) (hp : ∀ a, P a → P' a) : Ex P' u v := ⟨h.1, fun a h1 h2 => h.2 a h1 (fun q => h2 (hp a q))⟩
theorem Ex.wI {P : Nat → Prop} {u : Mem} {a : Nat} {i x : Int} (h : P a) : Ex P u (wI_ u a i x) := ⟨Nat.le_refl _, fun b _ hb => Sm.wI (fun e => hb (e ▸ h))⟩
theorem Ex.wR {P : Nat → Prop} {u : Mem} {a : Nat} {i : Int} {x : Nat} (h : P a) : Ex P u (wR_ u a i x) := ⟨Nat.le_refl _, fun b _ hb => Sm.wR (fun e => hb (e ▸ h))⟩
theorem Ex.al {P : Nat → Prop} {u : Mem} {K : Nat} {n : Int} : Ex P u (al_ u K n) := ⟨Nat.le_succ _, fun b h _ => Sm.al (by omega)⟩
/-- writes in new cells don't count -/
theorem Ex.new {P P' : Nat → Prop} {u v w : Mem} (h : Ex P u v) (h' : Ex P' v w) (hp : ∀ a, P' a → P a ∨ sz_ u ≤ a) : Ex P u w := ⟨Nat.le_trans h.1 h'.1, fun a h1 h2 => (h.2 a h1 h2).tr (h'.2 a (Nat.lt_of_lt_of_le h1 h.1) (fun q => by
  rcases hp a q with e | e
  · exact h2 e
  · omega))⟩
theorem Ky.same {u u' : Mem} {a : Nat} (h : Ky u a) (s1 : Sm u u' a) (s2 : Sm u u' (a + 1)) : Ky u' a ∧ tx u' a = tx u a := by
  obtain ⟨k1, k2, k3, k4, k5, k6, k7⟩ := h
  refine ⟨⟨by unfold isK_ at k1 ⊢; rw [s1.1]; exact k1, by rw [s1.2.2.2]; exact k2, by rw [s2.1]; exact k3, by rw [s2.2.1]; exact k4, by rw [s1.2.2.1]; exact k5, by rw [s1.2.2.1]; exact k6, fun i h0 h1 => by rw [s2.2.2.1]; exact k7 i h0 h1⟩, ?_⟩
  unfold tx
  rw [s1.2.2.1]
  exact seg_ext (fun j _ _ => s2.2.2.1 j)
theorem Ky.kd {u : Mem} {a : Nat} (h : Ky u a) : kd_ u a = 2 ∨ kd_ u a = 14 := h.1
theorem Ky.lt {u : Mem} {a : Nat} (hw : Wf u) (h : Ky u a) : a < sz_ u ∧ a + 1 < sz_ u ∧ a ≠ 0 := by
  have h1 := h.kd
  have h2 := h.2.2.1
  exact ⟨(hw.1 a (by omega)).1, (hw.1 (a + 1) (by omega)).1, (hw.1 a (by omega)).2⟩
theorem Ky.ex {P : Nat → Prop} {u u' : Mem} {a : Nat} (hw : Wf u) (h : Ky u a) (hx : Ex P u u') (h1 : ¬ P a) (h2 : ¬ P (a + 1)) : Ky u' a ∧ tx u' a = tx u a := by
  obtain ⟨l1, l2, -⟩ := h.lt hw
  exact h.same (hx.2 a l1 h1) (hx.2 (a + 1) l2 h2)
/-! ===== Key.copy, <init>, Entry.<init> ===== -/
/-- the first i characters of k are copied to a, and the length -/
def cpN (u : Mem) (a k : Nat) (i : Int) : Mem := (u.1, u.2.1, u.2.2.1, (fun b j => if b = a ∧ j = 1 then iv_ u k 1 else if b = a + 1 ∧ 0 ≤ j ∧ j < i then iv_ u (k + 1) j else iv_ u b j), u.2.2.2.2)
theorem iv_cp (u : Mem) (a k : Nat) (i : Int) (b : Nat) (j : Int) : iv_ (cpN u a k i) b j = if b = a ∧ j = 1 then iv_ u k 1 else if b = a + 1 ∧ 0 ≤ j ∧ j < i then iv_ u (k + 1) j else iv_ u b j := rfl
theorem cp_0 (u : Mem) (a k : Nat) : wI_ u a 1 (iv_ u k 1) = cpN u a k 0 := by
  refine mem_ext rfl (fun _ => rfl) (fun _ => rfl) (fun b j => ?_) (fun _ _ => rfl)
  rw [iv_wI, iv_cp]
  by_cases h : b = a ∧ j = 1
  · rw [if_pos h, if_pos h]
  · rw [if_neg h, if_neg h, if_neg (by omega)]
theorem cp_s {u : Mem} {a k : Nat} {i : Int} (h0 : 0 ≤ i) : wI_ (cpN u a k i) (a + 1) i (iv_ u (k + 1) i) = cpN u a k (i + 1) := by
  refine mem_ext rfl (fun _ => rfl) (fun _ => rfl) (fun b j => ?_) (fun _ _ => rfl)
  rw [iv_wI, iv_cp, iv_cp]
  by_cases h : b = a ∧ j = 1
  · rw [if_pos h, if_pos h, if_neg (by omega)]
  · rw [if_neg h, if_neg h]
    by_cases h2 : b = a + 1 ∧ j = i
    · rw [if_pos h2, if_pos (by omega), h2.2]
    · rw [if_neg h2]
      by_cases h3 : b = a + 1 ∧ 0 ≤ j ∧ j < i
      · rw [if_pos h3, if_pos (by omega)]
      · rw [if_neg h3, if_neg (by omega)]
/-- a copy of the text of k in a -/
def cpy (u : Mem) (a k : Nat) : Mem := cpN u a k (iv_ u k 1)
/-- a key's cells, whatever its text is: what copy asks of its receiver -/
def Kc (u : Mem) (a : Nat) : Prop := isK_ u a ∧ rv_ u a 0 = a + 1 ∧ kd_ u (a + 1) = 101 ∧ ln_ u (a + 1) = 8
theorem Ky.Kc {u : Mem} {a : Nat} (h : Ky u a) : Kc u a := ⟨h.1, h.2.1, h.2.2.1, h.2.2.2.1⟩
theorem c_copy (l : Launch) (u : Mem) {a k : Nat} (ha : Kc u a) (hk : Ky u k) (hne : a ≠ k) : Mt_ l yX2_copy cX2_copy 3 (some (.object "KeyHall$Key")) 0 0 0 [aR a, aR k] u (qR fun r u' => a = r ∧ u' = cpy u a k) := by
  obtain ⟨ka, ra, ca, la⟩ := ha
  obtain ⟨kk, rk, ck, lk, nk, nk8, vk⟩ := hk
  refine Mt_of (by decide) (Nat.le_of_ble_eq_true rfl) (fun X ho hX hN hI => ?_)
  subst hX
  show Z X 0 [some (aR a), some (aR k), none] [] u 0 0
  refine z_aload_n ho dX2_copy_0 rfl ?_
  refine z_aload_n ho dX2_copy_1 rfl ?_
  refine gX2_15 ho dX2_copy_2 kk ?_
  refine pX2_15 ho dX2_copy_5 ka  ?_
  refine z_iconst ho dX2_copy_8 ?_
  refine z_istore_n ho dX2_copy_9 (Nat.le_of_ble_eq_true rfl) rfl ?_
  rw [cp_0]
  have hk1 : k ≠ a + 1 := fun e => by rw [e] at kk; unfold isK_ at kk; omega
  have hk2 : k + 1 ≠ a := fun e => by rw [← e] at ka; unfold isK_ at ka; omega
  have en : ∀ i, iv_ (cpN u a k i) a 1 = iv_ u k 1 := fun i => by rw [iv_cp, if_pos ⟨rfl, rfl⟩]
  have ec : ∀ i j, iv_ (cpN u a k i) (k + 1) j = iv_ u (k + 1) j := fun i j => by rw [iv_cp, if_neg (by omega), if_neg (by omega)]
  have er : ∀ i b j, rv_ (cpN u a k i) b j = rv_ u b j := fun _ _ _ => rfl
  refine up_ind (m := iv_ u k 1) (P := fun i => 0 ≤ i → Z X 10 [some (aR a), some (aR k), some (aI i)] [] (cpN u a k i) 0 0) (fun i him ih h0 => ?_) 0 (by omega) (by omega)
  have hv := vk i
  refine z_iload_n ho dX2_copy_10 rfl ?_
  refine z_aload_n ho dX2_copy_11 rfl ?_
  refine gX2_15 ho dX2_copy_12 ka ?_
  refine z_icmp_ge (tgt := 36) ho dX2_copy_15 (by decide) (by unfold rng; omega) (by rw [en]; unfold rng; omega) (fun c15 => ?_) (fun c15 => ?_)
  · 
    refine z_aload_n ho dX2_copy_36 rfl ?_
    refine r_R ho dX2_copy_37 (Nat.le_of_ble_eq_true rfl) (Nat.le_of_ble_eq_true rfl) ?_
    rw [en] at c15
    have : i = iv_ u k 1 := by omega
    exact ⟨rfl, by rw [this]; rfl⟩
  · rw [en] at c15
    refine z_aload_n ho dX2_copy_18 rfl ?_
    refine gX2_9 ho dX2_copy_19 ka ?_
    refine z_iload_n ho dX2_copy_22 rfl ?_
    refine z_aload_n ho dX2_copy_23 rfl ?_
    refine gX2_9 ho dX2_copy_24 kk ?_
    refine z_iload_n ho dX2_copy_27 rfl ?_
    refine z_cald ho dX2_copy_28 (by rw [er, rk]; exact ck) (by omega) (by rw [er, rk]; show i < ln_ u (k + 1); rw [lk]; omega) ?_
    refine z_cast ho dX2_copy_29 (by rw [er, ra]; exact ca) (by omega) (by rw [er, ra]; show i < ln_ u (a + 1); rw [la]; omega) (by rw [er, rk, ec]; omega) (by rw [er, rk, ec]; omega) ?_
    refine z_iinc ho dX2_copy_30 rfl rfl ?_
    refine z_goto (tgt := 10) ho dX2_copy_33 (by decide) ?_
    rw [er, ra, er, rk, ec, cp_s h0]
    exact ih c15 (by omega)
theorem cpy_facts {u : Mem} {a k : Nat} (ha : Kc u a) (hk : Ky u k) (hne : a ≠ k) (hz : ∀ i : Int, 0 ≤ i → i < 8 → 0 ≤ iv_ u (a + 1) i ∧ iv_ u (a + 1) i < 65536) : Ky (cpy u a k) a ∧ tx (cpy u a k) a = tx u k ∧ (∀ b, b ≠ a → b ≠ a + 1 → Sm u (cpy u a k) b) ∧ (∀ j, j ≠ 1 → iv_ (cpy u a k) a j = iv_ u a j) := by
  obtain ⟨ka, ra, ca, la⟩ := ha
  obtain ⟨kk, rk, ck, lk, nk, nk8, vk⟩ := hk
  have hk1 : k ≠ a + 1 := fun e => by rw [e] at kk; unfold isK_ at kk; omega
  have hk2 : k + 1 ≠ a := fun e => by rw [← e] at ka; unfold isK_ at ka; omega
  unfold cpy
  have en : iv_ (cpN u a k (iv_ u k 1)) a 1 = iv_ u k 1 := by rw [iv_cp, if_pos ⟨rfl, rfl⟩]
  have ev : ∀ i, 0 ≤ i → i < iv_ u k 1 → iv_ (cpN u a k (iv_ u k 1)) (a + 1) i = iv_ u (k + 1) i := fun i h0 h1 => by rw [iv_cp, if_neg (by omega), if_pos ⟨rfl, h0, h1⟩]
  refine ⟨⟨ka, ra, ca, la, by rw [en]; exact nk, by rw [en]; exact nk8, fun i h0 h1 => ?_⟩, ?_, fun b h1 h2 => ⟨rfl, rfl, fun i => by rw [iv_cp, if_neg (by omega), if_neg (by omega)], fun _ => rfl⟩, fun j hj => by rw [iv_cp, if_neg (by omega), if_neg (by omega)]⟩
  · rw [iv_cp, if_neg (by omega)]
    split
    · exact vk i h0 h1
    · exact hz i h0 h1
  · unfold tx
    rw [en]
    exact seg_ext (fun j h0 h1 => ev j h0 (by omega))
theorem c_Key_init (l : Launch) (u : Mem) {a : Nat} (ha : isK_ u a) : Mt_ l yX2_init cX2_init 1 none 1 1 8 [aR a] u (qV fun u' => u' = wR_ (al_ u 101 8) a 0 (sz_ u)) := by
  refine Mt_of (by decide) (Nat.le_of_ble_eq_true rfl) (fun X ho hX hN hI => ?_)
  subst hX
  have hin : In_ X := hI rfl
  show Z X 0 [some (aR a)] [] u 0 0
  refine z_wf (fun hw => ?_)
  have ha0 : a < sz_ u ∧ a ≠ 0 := hw.1 a (by unfold isK_ at ha; omega)
  refine z_aload_n ho dX2_init_0 rfl ?_
  refine kX2_3 ho hN dX2_init_1 ha0.2 (Nat.le_of_ble_eq_true rfl) (Nat.le_of_ble_eq_true rfl) ?_
  refine z_aload_n ho dX2_init_4 rfl ?_
  refine z_bipush ho dX2_init_5 rfl ?_
  refine na_C ho dX2_init_7 (by omega) (by omega) (Nat.le_of_ble_eq_true rfl) (Nat.le_of_ble_eq_true rfl) ?_
  refine pX2_9 ho hin dX2_init_9 (by unfold isK_ at ha ⊢; rw [kd_al, if_neg (by omega)]; exact ha)  ?_
  refine r_V ho dX2_init_12 (Nat.le_of_ble_eq_true rfl) (Nat.le_of_ble_eq_true rfl) ?_
  exact rfl
/-- a new key, as 'new Key()' makes it at sz_ u -/
def nky (u : Mem) (K : Nat) : Mem := wR_ (al_ (al_ u K 0) 101 8) (sz_ u) 0 (sz_ u + 1)
theorem nky_facts {u : Mem} {K : Nat} (hK : K = 2 ∨ K = 14) : Kc (nky u K) (sz_ u) ∧ sz_ (nky u K) = sz_ u + 2 ∧ (∀ i, iv_ (nky u K) (sz_ u) i = 0) ∧ (∀ i, iv_ (nky u K) (sz_ u + 1) i = 0) ∧ Ex (fun _ => False) u (nky u K) ∧ kd_ (nky u K) (sz_ u) = K := by
  have e0 : ¬ (sz_ u = sz_ u + 1) := by omega
  refine ⟨⟨?_, ?_, ?_, ?_⟩, rfl, fun i => ?_, fun i => ?_, ?_, ?_⟩
  · simp [nky, isK_, sz_wI, kd_wI, ln_wI, iv_wI, rv_wI, sz_wR, kd_wR, ln_wR, iv_wR, rv_wR, sz_al, kd_al, ln_al, iv_al, rv_al]; exact hK
  · simp [nky, sz_wI, kd_wI, ln_wI, iv_wI, rv_wI, sz_wR, kd_wR, ln_wR, iv_wR, rv_wR, sz_al, kd_al, ln_al, iv_al, rv_al]
  · simp [nky, sz_wI, kd_wI, ln_wI, iv_wI, rv_wI, sz_wR, kd_wR, ln_wR, iv_wR, rv_wR, sz_al, kd_al, ln_al, iv_al, rv_al]
  · simp [nky, sz_wI, kd_wI, ln_wI, iv_wI, rv_wI, sz_wR, kd_wR, ln_wR, iv_wR, rv_wR, sz_al, kd_al, ln_al, iv_al, rv_al]
  · simp [nky, sz_wI, kd_wI, ln_wI, iv_wI, rv_wI, sz_wR, kd_wR, ln_wR, iv_wR, rv_wR, sz_al, kd_al, ln_al, iv_al, rv_al]
  · simp [nky, sz_wI, kd_wI, ln_wI, iv_wI, rv_wI, sz_wR, kd_wR, ln_wR, iv_wR, rv_wR, sz_al, kd_al, ln_al, iv_al, rv_al]
  · exact (Ex.al.tr Ex.al).new (Ex.wR (P := fun x => x = sz_ u) rfl) (fun a h => Or.inr (by rw [h]; exact Nat.le_refl _))
  · simp [nky, sz_wI, kd_wI, ln_wI, iv_wI, rv_wI, sz_wR, kd_wR, ln_wR, iv_wR, rv_wR, sz_al, kd_al, ln_al, iv_al, rv_al]
theorem c_Entry_init (l : Launch) (u : Mem) {a k : Nat} {v : Int} (ha : kd_ u a = 14) (hz : sz_ u = a + 1) (hk : Ky u k) (hne : a ≠ k) : Mt_ l yX14_init cX14_init 3 none 2 1 8 [aR a, aR k, aI v] u (qV fun u' => u' = wI_ (cpy (wR_ (al_ u 101 8) a 0 (a + 1)) a k) a 2 v) := by
  refine Mt_of (by decide) (Nat.le_of_ble_eq_true rfl) (fun X ho hX hN hI => ?_)
  subst hX
  have hin : In_ X := hI rfl
  show Z X 0 [some (aR a), some (aR k), some (aI v)] [] u 0 0
  refine z_wf (fun hw => ?_)
  have ha0 := hw.1 a (by omega)
  obtain ⟨lk1, lk2, -⟩ := hk.lt hw
  refine z_aload_n ho dX14_init_0 rfl ?_
  refine kX14_1 ho hN (c_Key_init _ _ (Or.inr ha)) dX14_init_1 ha0.2 (Nat.le_of_ble_eq_true rfl) (Nat.le_of_ble_eq_true rfl) (Nat.le_of_ble_eq_true rfl) (Nat.le_of_ble_eq_true rfl) (fun u1 h1 => ?_)
  obtain rfl := h1
  rw [hz]
  generalize hu1 : wR_ (al_ u 101 8) a 0 (a + 1) = u1
  have hkd : kd_ u1 a = 14 := by rw [← hu1]; simp only [sz_wI, kd_wI, ln_wI, iv_wI, rv_wI, sz_wR, kd_wR, ln_wR, iv_wR, rv_wR, sz_al, kd_al, ln_al, iv_al, rv_al]; rw [if_neg (by omega)]; exact ha
  have hKc : Kc u1 a := by
    refine ⟨Or.inr hkd, ?_, ?_, ?_⟩
    · rw [← hu1]; simp only [sz_wI, kd_wI, ln_wI, iv_wI, rv_wI, sz_wR, kd_wR, ln_wR, iv_wR, rv_wR, sz_al, kd_al, ln_al, iv_al, rv_al]; simp
    · rw [← hu1]; simp only [sz_wI, kd_wI, ln_wI, iv_wI, rv_wI, sz_wR, kd_wR, ln_wR, iv_wR, rv_wR, sz_al, kd_al, ln_al, iv_al, rv_al]; rw [if_pos hz.symm]
    · rw [← hu1]; simp only [sz_wI, kd_wI, ln_wI, iv_wI, rv_wI, sz_wR, kd_wR, ln_wR, iv_wR, rv_wR, sz_al, kd_al, ln_al, iv_al, rv_al]; rw [if_pos hz.symm]
  have hk1 : Ky u1 k ∧ tx u1 k = tx u k := by
    rw [← hu1]
    exact hk.same ((Sm.al (by omega)).tr (Sm.wR (Ne.symm hne))) ((Sm.al (by omega)).tr (Sm.wR (by have := hk.2.2.1; intro e; rw [e] at this; omega)))
  refine z_aload_n ho dX14_init_4 rfl ?_
  refine z_aload_n ho dX14_init_5 rfl ?_
  refine kX14_7 ho hN (c_copy _ _ hKc hk1.1 hne) dX14_init_6 hkd (Nat.le_of_ble_eq_true rfl) (Nat.le_of_ble_eq_true rfl) (Nat.le_of_ble_eq_true rfl) (Nat.le_of_ble_eq_true rfl) (fun x6 u6 h6 => ?_)
  obtain ⟨rfl, rfl⟩ := h6
  refine z_pop ho dX14_init_9 rfl ?_
  refine z_aload_n ho dX14_init_10 rfl ?_
  refine z_iload_n ho dX14_init_11 rfl ?_
  refine pX14_13 ho dX14_init_12 hkd  ?_
  refine r_V ho dX14_init_15 (Nat.le_of_ble_eq_true rfl) (Nat.le_of_ble_eq_true rfl) ?_
  rw [hu1]
