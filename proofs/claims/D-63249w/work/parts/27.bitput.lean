set_option maxRecDepth 100000
/-! ===== frames by kinds ===== -/
/-- old cells keep kind and length; those for which Q does not hold keep all -/
def Fr (Q : Nat → Nat → Prop) (u u' : Mem) : Prop := sz_ u ≤ sz_ u' ∧ ∀ a, a < sz_ u → kd_ u' a = kd_ u a ∧ ln_ u' a = ln_ u a ∧ (¬ Q a (kd_ u a) → Sm u u' a)
theorem Fr.rf (Q : Nat → Nat → Prop) (u : Mem) : Fr Q u u := ⟨Nat.le_refl _, fun a _ => ⟨rfl, rfl, fun _ => Sm.rf u a⟩⟩
theorem Fr.tr {Q : Nat → Nat → Prop} {u v w : Mem} (h : Fr Q u v) (h' : Fr Q v w) : Fr Q u w := ⟨Nat.le_trans h.1 h'.1, fun a h1 => by
  obtain ⟨a1, a2, a3⟩ := h.2 a h1
  obtain ⟨b1, b2, b3⟩ := h'.2 a (Nat.lt_of_lt_of_le h1 h.1)
  exact ⟨b1.trans a1, b2.trans a2, fun q => (a3 q).tr (b3 (by rw [a1]; exact q))⟩⟩
theorem Fr.mono {Q Q' : Nat → Nat → Prop} {u v : Mem} (h : Fr Q u v) (hq : ∀ a K, Q a K → Q' a K) : Fr Q' u v := ⟨h.1, fun a h1 => ⟨(h.2 a h1).1, (h.2 a h1).2.1, fun q => (h.2 a h1).2.2 (fun e => q (hq _ _ e))⟩⟩
theorem Fr.wI {Q : Nat → Nat → Prop} {u : Mem} {a : Nat} {i x : Int} (h : a < sz_ u → Q a (kd_ u a)) : Fr Q u (wI_ u a i x) := ⟨Nat.le_refl _, fun b hb => ⟨rfl, rfl, fun q => Sm.wI (fun e => q (by subst e; exact h hb))⟩⟩
theorem Fr.wR {Q : Nat → Nat → Prop} {u : Mem} {a : Nat} {i : Int} {x : Nat} (h : a < sz_ u → Q a (kd_ u a)) : Fr Q u (wR_ u a i x) := ⟨Nat.le_refl _, fun b hb => ⟨rfl, rfl, fun q => Sm.wR (fun e => q (by subst e; exact h hb))⟩⟩
theorem Fr.al {Q : Nat → Nat → Prop} {u : Mem} {K : Nat} {n : Int} : Fr Q u (al_ u K n) := ⟨Nat.le_succ _, fun b h => ⟨by rw [kd_al, if_neg (by omega)], by rw [ln_al, if_neg (by omega)], fun _ => Sm.al (by omega)⟩⟩
/-- writes in new cells don't count -/
theorem Fr.nI {Q : Nat → Nat → Prop} {u v : Mem} {a : Nat} {i x : Int} (h : Fr Q u v) (ha : sz_ u ≤ a ∨ Q a (kd_ u a)) : Fr Q u (wI_ v a i x) := ⟨h.1, fun b hb => ⟨(h.2 b hb).1, (h.2 b hb).2.1, fun q => ((h.2 b hb).2.2 q).tr (Sm.wI (fun e => by subst e; rcases ha with ha | ha; (· omega); exact q ha))⟩⟩
theorem Fr.nR {Q : Nat → Nat → Prop} {u v : Mem} {a : Nat} {i : Int} {x : Nat} (h : Fr Q u v) (ha : sz_ u ≤ a ∨ Q a (kd_ u a)) : Fr Q u (wR_ v a i x) := ⟨h.1, fun b hb => ⟨(h.2 b hb).1, (h.2 b hb).2.1, fun q => ((h.2 b hb).2.2 q).tr (Sm.wR (fun e => by subst e; rcases ha with ha | ha; (· omega); exact q ha))⟩⟩
theorem Fr.nA {Q : Nat → Nat → Prop} {u v : Mem} {K : Nat} {n : Int} (h : Fr Q u v) : Fr Q u (al_ v K n) := h.tr Fr.al
theorem Fr.ex {Q : Nat → Nat → Prop} {u v : Mem} (h : Fr Q u v) : Ex (fun a => Q a (kd_ u a)) u v := ⟨h.1, fun a h1 h2 => (h.2 a h1).2.2 h2⟩
theorem Fr.Ky {Q : Nat → Nat → Prop} {u v : Mem} {a : Nat} (hw : Wf u) (h : Fr Q u v) (hk : Ky u a) (q1 : ¬ Q a (kd_ u a)) (q2 : ¬ Q (a + 1) 101) : Ky v a ∧ tx v a = tx u a := hk.ex hw h.ex q1 (by rw [hk.2.2.1]; exact q2)
theorem Fr.En {Q : Nat → Nat → Prop} {u v : Mem} {e : Nat} (hw : Wf u) (h : Fr Q u v) (he : En u e) (q1 : ¬ Q e 14) (q2 : ¬ Q (e + 1) 101) : En v e ∧ tx v e = tx u e := by
  obtain ⟨h1, h2⟩ := h.Ky hw he.1 (by rw [he.2]; exact q1) q2
  exact ⟨⟨h1, by rw [(h.2 e (he.1.lt hw).1).1]; exact he.2⟩, h2⟩
/-! ===== BitTree: put, take ===== -/
theorem c_Fork_init (l : Launch) (u : Mem) {a e : Nat} (ha : kd_ u a = 15) : Mt_ l yX15_init cX15_init 2 none 1 0 0 [aR a, aR e] u (qV fun u' => u' = wR_ u a 3 e) := by
  refine Mt_of (by decide) (Nat.le_of_ble_eq_true rfl) (fun X ho hX hN hI => ?_)
  subst hX
  have hin : In_ X := hI rfl
  show Z X 0 [some (aR a), some (aR e)] [] u 0 0
  refine z_wf (fun hw => ?_)
  have ha0 := hw.1 a (by omega)
  refine z_aload_n ho dX15_init_0 rfl ?_
  refine kX15_1 ho hN dX15_init_1 ha0.2 (Nat.le_of_ble_eq_true rfl) (Nat.le_of_ble_eq_true rfl) ?_
  refine z_aload_n ho dX15_init_4 rfl ?_
  refine z_aload_n ho dX15_init_5 rfl ?_
  refine pX15_7 ho dX15_init_6 ha  ?_
  refine r_V ho dX15_init_9 (Nat.le_of_ble_eq_true rfl) (Nat.le_of_ble_eq_true rfl) ?_
  exact rfl
theorem c_Fork_init_2 (l : Launch) (u : Mem) {a f g : Nat} {b : Int} (ha : kd_ u a = 15) : Mt_ l yX15_init_2 cX15_init_2 4 none 1 0 0 [aR a, aI b, aR f, aR g] u (qV fun u' => u' = wR_ (wR_ (wI_ u a 0 b) a 1 f) a 2 g) := by
  refine Mt_of (by decide) (Nat.le_of_ble_eq_true rfl) (fun X ho hX hN hI => ?_)
  subst hX
  have hin : In_ X := hI rfl
  show Z X 0 [some (aR a), some (aI b), some (aR f), some (aR g)] [] u 0 0
  refine z_wf (fun hw => ?_)
  have ha0 := hw.1 a (by omega)
  refine z_aload_n ho dX15_init_2_0 rfl ?_
  refine kX15_1 ho hN dX15_init_2_1 ha0.2 (Nat.le_of_ble_eq_true rfl) (Nat.le_of_ble_eq_true rfl) ?_
  refine z_aload_n ho dX15_init_2_4 rfl ?_
  refine z_iload_n ho dX15_init_2_5 rfl ?_
  refine pX15_13 ho dX15_init_2_6 ha  ?_
  refine z_aload_n ho dX15_init_2_9 rfl ?_
  refine z_aload_n ho dX15_init_2_10 rfl ?_
  refine pX15_17 ho dX15_init_2_11 ha  ?_
  refine z_aload_n ho dX15_init_2_14 rfl ?_
  refine z_aload_n ho dX15_init_2_15 rfl ?_
  refine pX15_21 ho dX15_init_2_16 ha  ?_
  refine r_V ho dX15_init_2_19 (Nat.le_of_ble_eq_true rfl) (Nat.le_of_ble_eq_true rfl) ?_
  exact rfl
/-- the pointer that a walk by a key has come along is set -/
def jn (u : Mem) (t up : Nat) (s : List Int) (f : Nat) : Mem := if up = 0 then wR_ u t 2 f else if bitL s (iv_ u up 0) = 0 then wR_ u up 1 f else wR_ u up 2 f
theorem c_join (l : Launch) (u : Mem) {t up k f : Nat} (ht : kd_ u t = 4) (hup : up = 0 ∨ (kd_ u up = 15 ∧ 0 ≤ iv_ u up 0 ∧ iv_ u up 0 < 136)) (hk : Ky u k) : Mt_ l yX4_join cX4_join 4 none 1 0 0 [aR t, aR up, aR k, aR f] u (qV fun u' => u' = jn u t up (tx u k) f) := by
  refine Mt_of (by decide) (Nat.le_of_ble_eq_true rfl) (fun X ho hX hN hI => ?_)
  subst hX
  show Z X 0 [some (aR t), some (aR up), some (aR k), some (aR f)] [] u 0 0
  refine z_aload_n ho dX4_join_0 rfl ?_
  refine z_ifnonnull (tgt := 12) ho dX4_join_1 (by decide) (fun c1 => ?_) (fun c1 => ?_)
  · obtain ⟨h1, h2, h3⟩ := hup.resolve_left c1
    have h01 := bitL_01 (tx u k) (iv_ u up 0)
    refine z_aload_n ho dX4_join_12 rfl ?_
    refine z_aload_n ho dX4_join_13 rfl ?_
    refine gX4_19 ho dX4_join_14 h1 ?_
    refine kX4_23 ho hN (c_bit _ _ hk h2 (by omega)) dX4_join_17 hk.1 (Nat.le_of_ble_eq_true rfl) (Nat.le_of_ble_eq_true rfl) (Nat.le_of_ble_eq_true rfl) (Nat.le_of_ble_eq_true rfl) (fun x17 u17 h17 => ?_)
    obtain ⟨rfl, rfl⟩ := h17
    refine z_if_ne (tgt := 31) ho dX4_join_20 (by decide) (by unfold rng; omega) (fun c20 => ?_) (fun c20 => ?_)
    · 
      refine z_aload_n ho dX4_join_31 rfl ?_
      refine z_aload_n ho dX4_join_32 rfl ?_
      refine pX4_59 ho dX4_join_33 h1  ?_
      refine r_V ho dX4_join_36 (Nat.le_of_ble_eq_true rfl) (Nat.le_of_ble_eq_true rfl) ?_
      unfold jn
      rw [if_neg c1, if_neg c20]
    · 
      refine z_aload_n ho dX4_join_23 rfl ?_
      refine z_aload_n ho dX4_join_24 rfl ?_
      refine pX4_56 ho dX4_join_25 h1  ?_
      refine z_goto (tgt := 36) ho dX4_join_28 (by decide) ?_
      refine r_V ho dX4_join_36 (Nat.le_of_ble_eq_true rfl) (Nat.le_of_ble_eq_true rfl) ?_
      unfold jn
      rw [if_neg c1, if_pos c20]
  · 
    refine z_aload_n ho dX4_join_4 rfl ?_
    refine z_aload_n ho dX4_join_5 rfl ?_
    refine pX4_7 ho dX4_join_6 ht  ?_
    refine z_goto (tgt := 36) ho dX4_join_9 (by decide) ?_
    refine r_V ho dX4_join_36 (Nat.le_of_ble_eq_true rfl) (Nat.le_of_ble_eq_true rfl) ?_
    unfold jn
    rw [if_pos c1]
/-- the pointer at which a walk by the text s stands -/
def Ptr (u : Mem) (t up : Nat) (s : List Int) (f : Nat) : Prop := (up = 0 → rv_ u t 2 = f) ∧ (up ≠ 0 → rv_ u up (if bitL s (iv_ u up 0) = 0 then 1 else 2) = f)
/-- u' is u, with another thing at that pointer, and any changes in the cells of L -/
def Plug (u u' : Mem) (t up : Nat) (s : List Int) (f : Nat) (L : List Nat) : Prop := Ptr u' t up s f ∧ sz_ u ≤ sz_ u' ∧ (∀ a, a < sz_ u → a ∉ L → a ≠ t → a ≠ up → Sm u u' a) ∧
  (up ≠ 0 → rv_ u' t 2 = rv_ u t 2 ∧ kd_ u' up = kd_ u up ∧ iv_ u' up 0 = iv_ u up 0 ∧ rv_ u' up 3 = rv_ u up 3 ∧ rv_ u' up (if bitL s (iv_ u up 0) = 0 then 2 else 1) = rv_ u up (if bitL s (iv_ u up 0) = 0 then 2 else 1))
/-- whatever is put in the place of f, whose entries agree with those of f in the first B bits, gives a tree -/
def Hol (u : Mem) (M : Nat) (t up f : Nat) (s : List Int) (ef fpf Ls Rs : List Nat) (B : Int) : Prop := Ptr u t up s f ∧ (up ∉ fpf ∧ (up = 0 ∨ kd_ u up = 15)) ∧ ∀ u' f' ef' fpf' m, Plug u u' t up s f' fpf → FT u' m f' ef' fpf' → (∀ x ∈ fpf', x ∈ fpf ∨ M ≤ x) → (∀ x ∈ ef', ∃ y ∈ ef, agr (tx u' x) (tx u y) B) → ∃ m' fp', FT u' m' (rv_ u' t 2) (Ls ++ (ef' ++ Rs)) fp'
theorem FT.en {u u' : Mem} {n a : Nat} {es fp : List Nat} (h : FT u n a es fp) (hx : ∀ e ∈ es, Sm u u' e ∧ Sm u u' (e + 1)) : ∀ e ∈ es, En u' e ∧ tx u' e = tx u e := fun e he => by
  have := (FT.mem u _ _ _ _ h).2.1 e he
  obtain ⟨s1, s2⟩ := hx e he
  obtain ⟨k1, k2⟩ := this.1.same s1 s2
  exact ⟨⟨k1, by rw [s1.1]; exact this.2⟩, k2⟩
theorem Hol.step {u : Mem} {M t up f n : Nat} {s : List Int} {Ls Rs es1 es2 fp1 fp2 : List Nat} {B : Int} (hw : Wf u) (ht : kd_ u t = 4) (hkf : kd_ u f = 15) (g1 : rv_ u f 3 = 0) (g2 : 0 ≤ iv_ u f 0) (g3 : iv_ u f 0 < 136) (hB : iv_ u f 0 < B)
    (f1 : FT u n (rv_ u f 1) es1 fp1) (f2 : FT u n (rv_ u f 2) es2 fp2) (d1 : f ∉ fp1) (d2 : f ∉ fp2) (d3 : ∀ x ∈ fp1, x ∉ fp2)
    (b1 : ∀ e ∈ es1, bitL (tx u e) (iv_ u f 0) = 0) (b2 : ∀ e ∈ es2, bitL (tx u e) (iv_ u f 0) = 1) (b3 : ∀ e ∈ es1 ++ es2, ∀ e' ∈ es1 ++ es2, ∀ j, 0 ≤ j → j < iv_ u f 0 → bitL (tx u e) j = bitL (tx u e') j)
    (hM : ∀ x ∈ f :: (fp1 ++ fp2), x < M) (h : Hol u M t up f s (es1 ++ es2) (f :: (fp1 ++ fp2)) Ls Rs B) :
    (bitL s (iv_ u f 0) = 0 → Hol u M t f (rv_ u f 1) s es1 fp1 Ls (es2 ++ Rs) B) ∧ (bitL s (iv_ u f 0) ≠ 0 → Hol u M t f (rv_ u f 2) s es2 fp2 (Ls ++ es1) Rs B) := by
  obtain ⟨hp, ⟨hup, hupk⟩, h⟩ := h
  have hf0 : f ≠ 0 := (hw.1 f (by omega)).2
  have hfs : f < sz_ u := (hw.1 f (by omega)).1
  have hft : f ≠ t := fun e => by rw [e] at hkf; omega
  have m1 := FT.mem u _ _ _ _ f1
  have m2 := FT.mem u _ _ _ _ f2
  have hupf : up ≠ f := fun e => hup (by rw [e]; exact List.mem_cons_self)
  have hup1 : up ∉ fp1 := fun e => hup (by simp [e])
  have hup2 : up ∉ fp2 := fun e => hup (by simp [e])
  -- what stays of the rest
  have rest : ∀ u' (L : List Nat) (i : Int) f', Plug u u' t f s f' L → (∀ x ∈ L, kd_ u x = 15) → (∀ (es fp : List Nat) (m a : Nat), FT u m a es fp → (∀ x ∈ fp, x ∉ L) → f ∉ fp → FT u' m a es fp ∧ ∀ e ∈ es, tx u' e = tx u e) := by
    intro u' L i f' hpl hL es fp m a hft' hd hf
    have hm := FT.mem u _ _ _ _ hft'
    have hsm : ∀ a, a < sz_ u → kd_ u a ≠ 15 → kd_ u a ≠ 4 → Sm u u' a := fun a ha h1 h2 => hpl.2.2.1 a ha (fun q => h1 (hL a q)) (fun q => h2 (by rw [q]; exact ht)) (fun q => h1 (by rw [q]; exact hkf))
    have he := FT.en (u' := u') hft' (fun e he => by
      have en := hm.2.1 e he
      have l1 := en.1.lt hw
      exact ⟨hsm e l1.1 (by rw [en.2]; decide) (by rw [en.2]; decide), hsm (e + 1) l1.2.1 (by rw [en.1.2.2.1]; decide) (by rw [en.1.2.2.1]; decide)⟩)
    refine ⟨FT.frame _ _ _ _ hft' (fun x hx => ?_) he, fun e h => (he e h).2⟩
    have hkx := hm.2.2.2 x hx
    exact hpl.2.2.1 x (hw.1 x (by omega)).1 (hd x hx) (fun q => by rw [q] at hkx; omega) (fun q => hf (q ▸ hx))
  -- the plug further up
  have plugup : ∀ u' (L : List Nat) f', Plug u u' t f s f' L → (∀ x ∈ L, x ∈ fp1 ++ fp2) → Plug u u' t up s f (f :: (fp1 ++ fp2)) := by
    intro u' L f' hpl hL
    have hrt : rv_ u' t 2 = rv_ u t 2 := (hpl.2.2.2 hf0).1
    refine ⟨⟨fun q => by rw [hrt]; exact hp.1 q, fun q => ?_⟩, hpl.2.1, fun a ha hna hnt hnu => hpl.2.2.1 a ha (fun q => hna (List.mem_cons_of_mem _ (hL a q))) hnt (fun q => hna (by rw [q]; exact List.mem_cons_self)), fun q => ?_⟩
    · have hku := hupk.resolve_left q
      have sm := hpl.2.2.1 up (hw.1 up (by omega)).1 (fun q => by have := hL up q; rcases List.mem_append.mp this with w | w; (· exact hup1 w); exact hup2 w) (fun e => by rw [e] at hku; omega) hupf
      rw [sm.2.2.2, sm.2.2.1]
      exact hp.2 q
    · have hku := hupk.resolve_left q
      have sm := hpl.2.2.1 up (hw.1 up (by omega)).1 (fun q => by have := hL up q; rcases List.mem_append.mp this with w | w; (· exact hup1 w); exact hup2 w) (fun e => by rw [e] at hku; omega) hupf
      exact ⟨hrt, sm.1, sm.2.2.1 0, sm.2.2.2 3, sm.2.2.2 _⟩
  constructor
  · intro hz
    refine ⟨⟨fun q => absurd q hf0, fun _ => by rw [if_pos hz]⟩, ⟨d1, Or.inr hkf⟩, fun u' f' ef' fpf' m hpl hft hfp hag => ?_⟩
    obtain ⟨r2, rt2⟩ := rest u' fp1 0 f' hpl m1.2.2.2 es2 fp2 n _ f2 (fun x hx q => d3 x q hx) d2
    have hq := hpl.2.2.2 hf0
    rw [if_pos hz] at hq
    have hpt := hpl.1.2 hf0
    rw [hq.2.2.1, if_pos hz] at hpt
    have g6 : ∀ x ∈ ef', ∃ y ∈ es1, ∀ j, 0 ≤ j → j ≤ iv_ u f 0 → bitL (tx u' x) j = bitL (tx u y) j := fun x hx => by
      obtain ⟨y, hy, q⟩ := hag x hx
      exact ⟨y, hy, fun j j0 j1 => q j j0 (by omega)⟩
    have g7 : ∀ x ∈ ef' ++ es2, ∃ y ∈ es1 ++ es2, ∀ j, 0 ≤ j → j < iv_ u f 0 → bitL (tx u' x) j = bitL (tx u y) j := fun x hx => by
      rcases List.mem_append.mp hx with q | q
      · obtain ⟨y, hy, q⟩ := g6 x q
        exact ⟨y, by simp [hy], fun j j0 j1 => q j j0 (by omega)⟩
      · exact ⟨x, by simp [q], fun j j0 j1 => by rw [rt2 x q]⟩
    have mf := FT.mem u' _ _ _ _ hft
    have whole : FT u' (max m n + 1) f (ef' ++ es2) (f :: (fpf' ++ fp2)) := by
      refine ⟨by rw [hq.2.1]; exact hkf, Or.inr ⟨by rw [hq.2.2.2.1]; exact g1, by rw [hq.2.2.1]; exact g2, by rw [hq.2.2.1]; exact g3, ef', es2, fpf', fp2, ?_, ?_, rfl, rfl, ?_, d2, ?_, ?_, ?_, ?_⟩⟩
      · rw [hpt]; exact FT.mono _ _ _ _ _ hft (by omega)
      · rw [hq.2.2.2.2]; exact FT.mono _ _ _ _ _ r2 (by omega)
      · intro q
        rcases hfp f q with w | w
        · exact d1 w
        · have := hM f (by simp); omega
      · intro x hx
        rcases hfp x hx with w | w
        · exact d3 x w
        · intro w2
          have := hM x (by simp [w2])
          omega
      · intro x hx
        obtain ⟨y, hy, q⟩ := g6 x hx
        rw [hq.2.2.1, q _ g2 (by omega)]
        exact b1 y hy
      · intro x hx
        rw [hq.2.2.1, rt2 x hx]
        exact b2 x hx
      · intro x hx x' hx' j j0 j1
        rw [hq.2.2.1] at j1
        obtain ⟨y, hy, q⟩ := g7 x hx
        obtain ⟨y', hy', q'⟩ := g7 x' hx'
        rw [q j j0 j1, q' j j0 j1]
        exact b3 y hy y' hy' j j0 j1
    obtain ⟨m', fp', hh⟩ := h u' f (ef' ++ es2) (f :: (fpf' ++ fp2)) _ (plugup u' fp1 f' hpl (fun x hx => by simp [hx])) whole (fun x hx => by
      rcases List.mem_cons.mp hx with q | q
      · exact Or.inl (by rw [q]; exact List.mem_cons_self)
      · rcases List.mem_append.mp q with q | q
        · rcases hfp x q with w | w
          · exact Or.inl (by simp [w])
          · exact Or.inr w
        · exact Or.inl (by simp [q])) (fun x hx => by
      rcases List.mem_append.mp hx with q | q
      · obtain ⟨y, hy, q⟩ := hag x q
        exact ⟨y, by simp [hy], q⟩
      · exact ⟨x, by simp [q], agr.all (rt2 x q) _⟩)
    exact ⟨m', fp', by rw [List.append_assoc] at hh; exact hh⟩
  · intro hz
    refine ⟨⟨fun q => absurd q hf0, fun _ => by rw [if_neg hz]⟩, ⟨d2, Or.inr hkf⟩, fun u' f' ef' fpf' m hpl hft hfp hag => ?_⟩
    obtain ⟨r1, rt1⟩ := rest u' fp2 0 f' hpl m2.2.2.2 es1 fp1 n _ f1 d3 d1
    have hq := hpl.2.2.2 hf0
    rw [if_neg hz] at hq
    have hpt := hpl.1.2 hf0
    rw [hq.2.2.1, if_neg hz] at hpt
    have g6 : ∀ x ∈ ef', ∃ y ∈ es2, ∀ j, 0 ≤ j → j ≤ iv_ u f 0 → bitL (tx u' x) j = bitL (tx u y) j := fun x hx => by
      obtain ⟨y, hy, q⟩ := hag x hx
      exact ⟨y, hy, fun j j0 j1 => q j j0 (by omega)⟩
    have g7 : ∀ x ∈ es1 ++ ef', ∃ y ∈ es1 ++ es2, ∀ j, 0 ≤ j → j < iv_ u f 0 → bitL (tx u' x) j = bitL (tx u y) j := fun x hx => by
      rcases List.mem_append.mp hx with q | q
      · exact ⟨x, by simp [q], fun j j0 j1 => by rw [rt1 x q]⟩
      · obtain ⟨y, hy, q⟩ := g6 x q
        exact ⟨y, by simp [hy], fun j j0 j1 => q j j0 (by omega)⟩
    have whole : FT u' (max m n + 1) f (es1 ++ ef') (f :: (fp1 ++ fpf')) := by
      refine ⟨by rw [hq.2.1]; exact hkf, Or.inr ⟨by rw [hq.2.2.2.1]; exact g1, by rw [hq.2.2.1]; exact g2, by rw [hq.2.2.1]; exact g3, es1, ef', fp1, fpf', ?_, ?_, rfl, rfl, d1, ?_, ?_, ?_, ?_, ?_⟩⟩
      · rw [hq.2.2.2.2]; exact FT.mono _ _ _ _ _ r1 (by omega)
      · rw [hpt]; exact FT.mono _ _ _ _ _ hft (by omega)
      · intro q
        rcases hfp f q with w | w
        · exact d2 w
        · have := hM f (by simp); omega
      · intro x hx q
        rcases hfp x q with w | w
        · exact d3 x hx w
        · have := hM x (by simp [hx])
          omega
      · intro x hx
        rw [hq.2.2.1, rt1 x hx]
        exact b1 x hx
      · intro x hx
        obtain ⟨y, hy, q⟩ := g6 x hx
        rw [hq.2.2.1, q _ g2 (by omega)]
        exact b2 y hy
      · intro x hx x' hx' j j0 j1
        rw [hq.2.2.1] at j1
        obtain ⟨y, hy, q⟩ := g7 x hx
        obtain ⟨y', hy', q'⟩ := g7 x' hx'
        rw [q j j0 j1, q' j j0 j1]
        exact b3 y hy y' hy' j j0 j1
    obtain ⟨m', fp', hh⟩ := h u' f (es1 ++ ef') (f :: (fp1 ++ fpf')) _ (plugup u' fp2 f' hpl (fun x hx => by simp [hx])) whole (fun x hx => by
      rcases List.mem_cons.mp hx with q | q
      · exact Or.inl (by rw [q]; exact List.mem_cons_self)
      · rcases List.mem_append.mp q with q | q
        · exact Or.inl (by simp [q])
        · rcases hfp x q with w | w
          · exact Or.inl (by simp [w])
          · exact Or.inr w) (fun x hx => by
      rcases List.mem_append.mp hx with q | q
      · exact ⟨x, by simp [q], agr.all (rt1 x q) _⟩
      · obtain ⟨y, hy, q⟩ := hag x q
        exact ⟨y, by simp [hy], q⟩)
    exact ⟨m', fp', by simp only [List.append_assoc] at hh ⊢; exact hh⟩
theorem Hol.root {u : Mem} {M t n : Nat} {s : List Int} {es fp : List Nat} {B : Int} (hw : Wf u) (hf : FT u n (rv_ u t 2) es fp) : Hol u M t 0 (rv_ u t 2) s es fp [] [] B := by
  refine ⟨⟨fun _ => rfl, fun q => absurd rfl q⟩, ⟨fun q => ?_, Or.inl rfl⟩, fun u' f' ef' fpf' m hpl hft _ _ => ⟨m, fpf', ?_⟩⟩
  · have := (FT.mem u _ _ _ _ hf).2.2.2 0 q
    have := (hw.1 0 (by omega)).2
    omega
  · rw [hpl.1.1 rfl]
    simpa using hft
/-- cells that a BitTree's put and take change -/
def Q4 (t : Nat) (a K : Nat) : Prop := K = 15 ∨ a = t
theorem jn_Fr {u v : Mem} {t up f : Nat} {s : List Int} (h : Fr (Q4 t) u v) (hup : up = 0 ∨ kd_ u up = 15) : Fr (Q4 t) u (jn v t up s f) := by
  unfold jn
  split
  · exact h.nR (Or.inr (Or.inr rfl))
  · split
    · exact h.nR (Or.inr (Or.inl (hup.resolve_left (by assumption))))
    · exact h.nR (Or.inr (Or.inl (hup.resolve_left (by assumption))))
theorem jn_iv (u : Mem) (t up : Nat) (s : List Int) (f a : Nat) (i : Int) : iv_ (jn u t up s f) a i = iv_ u a i := by
  unfold jn
  split
  · rfl
  · split <;> rfl
theorem jn_Plug {u v : Mem} {t up f : Nat} {s : List Int} {L : List Nat} (ht : t < sz_ u) (hv : sz_ u ≤ sz_ v) (hs : ∀ a, a < sz_ u → Sm u v a) (hup : up = 0 ∨ (up < sz_ u ∧ up ≠ t)) : Plug u (jn v t up s f) t up s f L := by
  have hst := hs t ht
  by_cases h0 : up = 0
  · subst h0
    have e : jn v t 0 s f = wR_ v t 2 f := if_pos rfl
    rw [e]
    refine ⟨⟨fun _ => by simp [sz_wI, kd_wI, ln_wI, iv_wI, rv_wI, sz_wR, kd_wR, ln_wR, iv_wR, rv_wR, sz_al, kd_al, ln_al, iv_al, rv_al], fun q => absurd rfl q⟩, hv, fun a ha _ hnt _ => (hs a ha).tr (Sm.wR hnt), fun q => absurd rfl q⟩
  · obtain ⟨hlt, hut⟩ := hup.resolve_left h0
    have hsu := hs up hlt
    have eiv : iv_ (jn v t up s f) up 0 = iv_ u up 0 := by rw [jn_iv, hsu.2.2.1]
    have eb : iv_ v up 0 = iv_ u up 0 := hsu.2.2.1 0
    have e : jn v t up s f = wR_ v up (if bitL s (iv_ u up 0) = 0 then 1 else 2) f := by
      unfold jn
      rw [if_neg h0, eb]
      split <;> rfl
    refine ⟨⟨fun q => absurd q h0, fun _ => ?_⟩, ?_, fun a ha _ hnt hnu => ?_, fun _ => ⟨?_, ?_, eiv, ?_, ?_⟩⟩
    · rw [eiv, e, rv_wR, if_pos ⟨rfl, rfl⟩]
    · rw [e]; exact hv
    · rw [e]; exact (hs a ha).tr (Sm.wR hnu)
    · rw [e, rv_wR, if_neg (fun q => hut q.1.symm), hst.2.2.2]
    · rw [e]; exact hsu.1
    · rw [e, rv_wR, if_neg (by split <;> omega), hsu.2.2.2]
    · rw [e, rv_wR, if_neg (by split <;> omega), hsu.2.2.2]
theorem c_BT_put (l : Launch) (u : Mem) {t e : Nat} {S : List Nat} (hT : BT u t S) (he : En u e) (hnew : ∀ x ∈ S, tx u x ≠ tx u e) : Mt_ l yX4_put cX4_put 7 none 3 2 10 [aR t, aR e] u (qV fun u' => (∀ S', (∀ x, x ∈ S' ↔ x ∈ S ∨ x = e) → BT u' t S') ∧ Fr (Q4 t) u u' ∧ ∀ i, iv_ u' t i = iv_ u t i) := by
  obtain ⟨ht, hT⟩ := hT
  refine Mt_of (by decide) (Nat.le_of_ble_eq_true rfl) (fun X ho hX hN hI => ?_)
  subst hX
  show Z X 0 [some (aR t), some (aR e), none, none, none, none, none] [] u 0 0
  refine z_wf (fun hw => ?_)
  have htl := hw.1 t (by omega)
  have hel := he.1.lt hw
  refine nX4_14 ho dX4_put_0 (Nat.le_of_ble_eq_true rfl) (Nat.le_of_ble_eq_true rfl) ?_
  refine z_dup ho dX4_put_3 rfl ?_
  refine z_aload_n ho dX4_put_4 rfl ?_
  refine kX4_42 ho hN (c_Fork_init _ _ (by rw [kd_al, if_pos rfl])) dX4_put_5 (by have := hw.2.2; omega) (Nat.le_of_ble_eq_true rfl) (Nat.le_of_ble_eq_true rfl) (Nat.le_of_ble_eq_true rfl) (Nat.le_of_ble_eq_true rfl) (fun u5 h5 => ?_)
  obtain rfl := h5
  generalize hu1 : wR_ (al_ u 15 0) (sz_ u) 3 e = u1
  have hz1 : sz_ u1 = sz_ u + 1 := by rw [← hu1]; rfl
  have hs1 : ∀ a, a < sz_ u → Sm u u1 a := fun a ha => by rw [← hu1]; exact (Sm.al (by omega)).tr (Sm.wR (by omega))
  have hkL : kd_ u1 (sz_ u) = 15 := by rw [← hu1]; simp [sz_wI, kd_wI, ln_wI, iv_wI, rv_wI, sz_wR, kd_wR, ln_wR, iv_wR, rv_wR, sz_al, kd_al, ln_al, iv_al, rv_al]
  have hrL : rv_ u1 (sz_ u) 3 = e := by rw [← hu1]; simp [sz_wI, kd_wI, ln_wI, iv_wI, rv_wI, sz_wR, kd_wR, ln_wR, iv_wR, rv_wR, sz_al, kd_al, ln_al, iv_al, rv_al]
  have hF1 : Fr (Q4 t) u u1 := by rw [← hu1]; exact Fr.al.nR (Or.inl (Nat.le_refl _))
  have ht1 : kd_ u1 t = 4 := by rw [(hs1 t htl.1).1]; exact ht
  have he1 : En u1 e ∧ tx u1 e = tx u e := hF1.En hw he (by unfold Q4; intro q; rcases q with q | q; (· omega); rw [q] at he; have := he.2; omega) (by unfold Q4; intro q; rcases q with q | q; (· omega); have := he.1.2.2.1; rw [q] at this; omega)
  have hrt : rv_ u1 t 2 = rv_ u t 2 := (hs1 t htl.1).2.2.2 2
  have hivt : ∀ i, iv_ u1 t i = iv_ u t i := (hs1 t htl.1).2.2.1
  refine z_wf (fun hw1 => ?_)
  refine z_astore_n ho dX4_put_8 (Nat.le_of_ble_eq_true rfl) rfl ?_
  refine z_aload_n ho dX4_put_9 rfl ?_
  refine gX4_7 ho dX4_put_10 ht1 ?_
  refine z_ifnonnull (tgt := 22) ho dX4_put_13 (by decide) (fun c13 => ?_) (fun c13 => ?_)
  · rcases hT with ⟨h0, -⟩ | ⟨n, es, fp, hf, hS⟩
    · exact absurd (hrt.trans h0) c13
    have hm := FT.mem u _ _ _ _ hf
    have htx : ∀ x ∈ es, En u1 x ∧ tx u1 x = tx u x := FT.en hf (fun x hx => by
      have := (hm.2.1 x hx).1.lt hw
      exact ⟨hs1 x this.1, hs1 (x + 1) this.2.1⟩)
    have hf1 : FT u1 n (rv_ u1 t 2) es fp := by
      rw [hrt]
      exact FT.frame _ _ _ _ hf (fun x hx => hs1 x (hw.1 x (by rw [hm.2.2.2 x hx]; decide)).1) htx
    have hfl : ∀ x ∈ fp, x < sz_ u := fun x hx => (hw.1 x (by rw [hm.2.2.2 x hx]; decide)).1
    refine z_aload_n ho dX4_put_22 rfl ?_
    refine z_aload_n ho dX4_put_23 rfl ?_
    refine kX4_32 ho hN (c_near _ _ ht1 hf1 he1.1.1) dX4_put_24 (by assumption) (Nat.le_of_ble_eq_true rfl) (Nat.le_of_ble_eq_true rfl) (Nat.le_of_ble_eq_true rfl) (Nat.le_of_ble_eq_true rfl) (fun x24 u24 h24 => ?_)
    obtain ⟨rfl, h1, h2⟩ := h24
    have ex := htx _ h1
    have hne : tx u1 x24 ≠ tx u1 e := by rw [ex.2, he1.2]; exact hnew _ ((hS _).mpr h1)
    refine z_aload_n ho dX4_put_27 rfl ?_
    refine kX4_45 ho hN (c_difference _ _ ex.1.1 he1.1.1 hne) dX4_put_28 ex.1.2 (Nat.le_of_ble_eq_true rfl) (Nat.le_of_ble_eq_true rfl) (Nat.le_of_ble_eq_true rfl) (Nat.le_of_ble_eq_true rfl) (fun x28 u28 h28 => ?_)
    obtain ⟨rfl, hd⟩ := h28
    refine z_istore_n ho dX4_put_31 (Nat.le_of_ble_eq_true rfl) rfl ?_
    refine z_null ho dX4_put_32 ?_
    refine z_astore ho dX4_put_33 (Nat.le_of_ble_eq_true rfl) rfl ?_
    refine z_aload_n ho dX4_put_35 rfl ?_
    refine gX4_7 ho dX4_put_36 ht1 ?_
    refine z_astore ho dX4_put_39 (Nat.le_of_ble_eq_true rfl) rfl ?_
    have hd2 := fdf_hi ex.1.1.Tx he1.1.1.Tx hd
    have hd0 := hd.1
    have fin : ∀ (n' g up : Nat) (Ls eg Rs fg : List Nat), FT u1 n' g eg fg → Hol u1 (sz_ u) t up g (tx u1 e) eg fg Ls Rs x28 → Cut u1 es e x24 Ls eg Rs → Stp_ u1 g x28 → (∀ x ∈ fg, x < sz_ u) → (up = 0 ∨ up < sz_ u) → (up = 0 ∨ (kd_ u1 up = 15 ∧ 0 ≤ iv_ u1 up 0 ∧ iv_ u1 up 0 < 136)) → Z X 81 [some (aR t), some (aR e), some (aR (sz_ u)), some (aI x28), some (aR up), some (aR g), none] [] u1 1 4 := by
      intro n' g up Ls eg Rs fg hg hol hc hstp hfg hup hup2
      have sd := stop_side hg hc.2.1 hstp (fun x hx i hi => h2 x (by rw [hc.1]; simp [hx]) i hi) hd hw1
      have h01 := bitL_01 (tx u1 e) x28
      have h02 := bitL_01 (tx u1 x24) x28
      have hdn := hd.2.2
      have hupt : up = 0 ∨ (up < sz_ u1 ∧ up ≠ t) := by
        rcases hup2 with q | q
        · exact Or.inl q
        · refine Or.inr ⟨by rcases hup with w | w <;> omega, fun w => ?_⟩
          rw [w] at q; omega
      -- the end, with both children
      have fin2 : ∀ u2 : Mem, sz_ u2 = sz_ u1 + 1 → (∀ a, a < sz_ u1 → Sm u1 u2 a) → kd_ u2 (sz_ u1) = 15 → iv_ u2 (sz_ u1) 0 = x28 → rv_ u2 (sz_ u1) 3 = 0 → ((bitL (tx u1 e) x28 = 0 ∧ rv_ u2 (sz_ u1) 1 = sz_ u ∧ rv_ u2 (sz_ u1) 2 = g) ∨ (bitL (tx u1 e) x28 = 1 ∧ rv_ u2 (sz_ u1) 1 = g ∧ rv_ u2 (sz_ u1) 2 = sz_ u)) → Z X 114 [some (aR t), some (aR e), some (aR (sz_ u)), some (aI x28), some (aR up), some (aR g), none] [aR (sz_ u1)] u2 2 8 := by
        intro u2 hz2 hs2 k2 b2 r23 rch
        have en2 := FT.en (u' := u2) (es := [e]) (fp := [sz_ u]) (n := 1) (a := sz_ u) ⟨hkL, Or.inl ⟨e, hrL, he1.1, rfl, rfl⟩⟩ (fun x hx => by
          rw [List.mem_singleton.mp hx]
          exact ⟨hs2 e (by omega), hs2 (e + 1) (by omega)⟩) e (by simp)
        have kup2 : up = 0 ∨ (kd_ u2 up = 15 ∧ 0 ≤ iv_ u2 up 0 ∧ iv_ u2 up 0 < 136) := by
          rcases hup2 with q | q
          · exact Or.inl q
          · have sm := hs2 up (by rcases hupt with w | w; (· have := hw1.1 up (by omega); omega); exact w.1)
            rw [sm.1, sm.2.2.1]
            exact Or.inr q
        refine z_astore ho dX4_put_114 (Nat.le_of_ble_eq_true rfl) rfl ?_
        refine z_aload_n ho dX4_put_116 rfl ?_
        refine z_aload ho dX4_put_117 rfl ?_
        refine z_aload_n ho dX4_put_119 rfl ?_
        refine z_aload ho dX4_put_120 rfl ?_
        refine kX4_52 ho hN (c_join _ _ (by rw [(hs2 t (by omega)).1]; exact ht1) kup2 en2.1.1) dX4_put_122 (by rw [(hs2 t (by omega)).1]; exact ht1) (Nat.le_of_ble_eq_true rfl) (Nat.le_of_ble_eq_true rfl) (Nat.le_of_ble_eq_true rfl) (Nat.le_of_ble_eq_true rfl) (fun u122 h122 => ?_)
        obtain rfl := h122
        refine r_V ho dX4_put_125 (Nat.le_of_ble_eq_true rfl) (Nat.le_of_ble_eq_true rfl) ?_
        rw [en2.2]
        have pl : Plug u1 (jn u2 t up (tx u1 e) (sz_ u1)) t up (tx u1 e) (sz_ u1) fg := jn_Plug (by omega) (by omega) hs2 hupt
        generalize hu3 : jn u2 t up (tx u1 e) (sz_ u1) = u3 at pl
        have hm3 := FT.mem u1 _ _ _ _ hg
        have upg : up ∉ fg := hol.2.1.1
        have smx : ∀ a, a < sz_ u1 → a ≠ t → a ≠ up → Sm u1 u3 a := by
          intro a ha h1 h2
          rw [← hu3]
          refine (hs2 a ha).tr ?_
          unfold jn
          split
          · exact Sm.wR h1
          · split <;> exact Sm.wR h2
        have htx3 : ∀ x, En u1 x → x < sz_ u1 → x + 1 < sz_ u1 → En u3 x ∧ tx u3 x = tx u1 x := fun x hx l1 l2 => by
          have sm : Sm u1 u3 x := smx x l1 (fun q => by rw [q] at hx; have := hx.2; omega) (fun q => by rcases hup2 with w | w; (· have := hx.ne0 hw1; omega); rw [← q, hx.2] at w; omega)
          have sm' : Sm u1 u3 (x + 1) := smx (x + 1) l2 (fun q => by have := hx.1.2.2.1; rw [q] at this; omega) (fun q => by rcases hup2 with w | w; (· omega); have := hx.1.2.2.1; rw [q] at this; omega)
          obtain ⟨k1, k2⟩ := hx.1.same sm sm'
          exact ⟨⟨k1, by rw [sm.1]; exact hx.2⟩, k2⟩
        have eg3 : ∀ x ∈ eg, En u3 x ∧ tx u3 x = tx u1 x := fun x hx => by
          have en := hm3.2.1 x hx
          have ll := en.1.lt hw1
          exact htx3 x en ll.1 ll.2.1
        have ee3 := htx3 e he1.1 (by omega) (by omega)
        have hg3 : FT u3 n' g eg fg := FT.frame _ _ _ _ hg (fun x hx => smx x (by have := hfg x hx; omega) (fun q => by have := hm3.2.2.2 x hx; rw [q] at this; omega) (fun q => upg (q ▸ hx))) eg3
        have smN : Sm u2 u3 (sz_ u1) := by
          rw [← hu3]
          unfold jn
          split
          · exact Sm.wR (by omega)
          · split <;> exact Sm.wR (by rcases hupt with w | w <;> omega)
        have smL : Sm u1 u3 (sz_ u) := smx _ (by omega) (by omega) (by rcases hup with w | w <;> omega)
        have hl3 : FT u3 1 (sz_ u) [e] [sz_ u] := ⟨by rw [smL.1]; exact hkL, Or.inl ⟨e, by rw [smL.2.2.2]; exact hrL, ee3.1, rfl, rfl⟩⟩
        have hnn : 1 ≤ n' := by
          cases n' with
          | zero => exact hg.elim
          | succ n => omega
        have hl3' := FT.mono 1 n' _ _ _ hl3 hnn
        have k3 : kd_ u3 (sz_ u1) = 15 := by rw [smN.1]; exact k2
        have b3 : iv_ u3 (sz_ u1) 0 = x28 := by rw [smN.2.2.1]; exact b2
        have r33 : rv_ u3 (sz_ u1) 3 = 0 := by rw [smN.2.2.2]; exact r23
        have agA : ∀ x ∈ eg, agr (tx u1 x) (tx u1 e) x28 := fun x hx => (sd x hx).1.2.1
        have n1 : sz_ u1 ∉ fg := fun q => by have := hfg _ q; omega
        have n2 : sz_ u ∉ fg := fun q => by have := hfg _ q; omega
        have fr : Fr (Q4 t) u u3 := by
          rw [← hu3]
          refine jn_Fr ?_ ?_
          · refine hF1.tr ⟨by omega, fun a ha => ?_⟩
            have sm := hs2 a ha
            exact ⟨sm.1, sm.2.1, fun _ => sm⟩
          · rcases hup2 with q | q
            · exact Or.inl q
            · rcases hup with w | w
              · exact Or.inl w
              · exact Or.inr (by rw [← (hs1 up w).1]; exact q.1)
        have iv3 : ∀ i, iv_ u3 t i = iv_ u t i := fun i => by rw [← hu3, jn_iv, (hs2 t (by omega)).2.2.1, hivt]
        have done : ∀ (ef : List Nat) (fpf : List Nat), FT u3 (n' + 1) (sz_ u1) ef fpf → (∀ x ∈ fpf, x ∈ fg ∨ sz_ u ≤ x) → (∀ x, x ∈ ef ↔ x ∈ eg ∨ x = e) → ((∀ S', (∀ x, x ∈ S' ↔ x ∈ S ∨ x = e) → BT u3 t S') ∧ Fr (Q4 t) u u3 ∧ ∀ i, iv_ u3 t i = iv_ u t i) := by
          intro ef fpf hff hfp hmem
          obtain ⟨m', fp', hh⟩ := hol.2.2 u3 (sz_ u1) ef fpf _ pl hff hfp (fun x hx => by
            rcases (hmem x).mp hx with q | q
            · exact ⟨x, q, agr.all (eg3 x q).2 _⟩
            · rw [q]
              exact ⟨x24, hc.2.1, fun j j0 j1 => by rw [ee3.2]; exact (hd.2.1 j j0 j1).symm⟩)
          refine ⟨fun S' hS' => ⟨?_, Or.inr ⟨m', _, fp', hh, fun x => ?_⟩⟩, fr, iv3⟩
          · rw [(fr.2 t htl.1).1]; exact ht
          · rw [hS' x, hS x, hc.1]
            simp only [List.mem_append, hmem x]
            constructor
            · rintro ((q | q | q) | q)
              · exact Or.inl q
              · exact Or.inr (Or.inl (Or.inl q))
              · exact Or.inr (Or.inr q)
              · exact Or.inr (Or.inl (Or.inr q))
            · rintro (q | (q | q) | q)
              · exact Or.inl (Or.inl q)
              · exact Or.inl (Or.inr (Or.inl q))
              · exact Or.inr q
              · exact Or.inl (Or.inr (Or.inr q))
        have mfp : ∀ x ∈ sz_ u1 :: (sz_ u :: fg), x ∈ fg ∨ sz_ u ≤ x := fun x hx => by
          rcases List.mem_cons.mp hx with q | q
          · exact Or.inr (by omega)
          · rcases List.mem_cons.mp q with q | q
            · exact Or.inr (by omega)
            · exact Or.inl q
        have ag3 : ∀ x, (x ∈ eg ∨ x = e) → ∀ j, 0 ≤ j → j < x28 → bitL (tx u3 x) j = bitL (tx u1 e) j := fun x hx j j0 j1 => by
          rcases hx with q | q
          · rw [(eg3 x q).2]; exact agA x q j j0 j1
          · rw [q, ee3.2]
        rcases rch with ⟨hb, c1, c2⟩ | ⟨hb, c1, c2⟩
        · refine done (e :: eg) (sz_ u1 :: (sz_ u :: fg)) ⟨k3, Or.inr ⟨r33, by rw [b3]; exact hd0, by rw [b3]; exact hd2, [e], eg, [sz_ u], fg, by rw [smN.2.2.2, c1]; exact hl3', by rw [smN.2.2.2, c2]; exact hg3, rfl, rfl, by simp; omega, n1, fun x hx => by rw [List.mem_singleton.mp hx]; exact n2, fun x hx => ?_, fun x hx => ?_, fun x hx x' hx' j j0 j1 => ?_⟩⟩ mfp (fun x => by simp [or_comm])
          · rw [List.mem_singleton.mp hx, b3, ee3.2]; exact hb
          · rw [b3, (eg3 x hx).2, (sd x hx).2]; omega
          · rw [b3] at j1
            rw [ag3 x (by simp [or_comm] at hx ⊢; exact hx) j j0 j1, ag3 x' (by simp [or_comm] at hx' ⊢; exact hx') j j0 j1]
        · refine done (eg ++ [e]) (sz_ u1 :: (fg ++ [sz_ u])) ⟨k3, Or.inr ⟨r33, by rw [b3]; exact hd0, by rw [b3]; exact hd2, eg, [e], fg, [sz_ u], by rw [smN.2.2.2, c1]; exact hg3, by rw [smN.2.2.2, c2]; exact hl3', rfl, rfl, n1, by simp; omega, fun x hx q => by rw [List.mem_singleton.mp q] at hx; exact n2 hx, fun x hx => ?_, fun x hx => ?_, fun x hx x' hx' j j0 j1 => ?_⟩⟩ (fun x hx => mfp x (by simp at hx ⊢; rcases hx with q | q | q <;> simp [q])) (fun x => by simp)
          · rw [b3, (eg3 x hx).2, (sd x hx).2]; omega
          · rw [List.mem_singleton.mp hx, b3, ee3.2]; exact hb
          · rw [b3] at j1
            rw [ag3 x (by simp at hx ⊢; exact hx) j j0 j1, ag3 x' (by simp at hx' ⊢; exact hx') j j0 j1]
      refine z_aload_n ho dX4_put_81 rfl ?_
      refine z_iload_n ho dX4_put_82 rfl ?_
      refine kX4_48 ho hN (c_bit _ _ he1.1.1 hd0 (by omega)) dX4_put_83 he1.1.2 (Nat.le_of_ble_eq_true rfl) (Nat.le_of_ble_eq_true rfl) (Nat.le_of_ble_eq_true rfl) (Nat.le_of_ble_eq_true rfl) (fun x83 u83 h83 => ?_)
      obtain ⟨rfl, rfl⟩ := h83
      refine z_if_ne (tgt := 103) ho dX4_put_86 (by decide) (by unfold rng; omega) (fun c86 => ?_) (fun c86 => ?_)
      · 
        refine nX4_14 ho dX4_put_103 (Nat.le_of_ble_eq_true rfl) (Nat.le_of_ble_eq_true rfl) ?_
        refine z_dup ho dX4_put_106 rfl ?_
        refine z_iload_n ho dX4_put_107 rfl ?_
        refine z_aload ho dX4_put_108 rfl ?_
        refine z_aload_n ho dX4_put_110 rfl ?_
        refine kX4_49 ho hN (c_Fork_init_2 _ _ (by rw [kd_al, if_pos rfl])) dX4_put_111 (by have := hw1.2.2; omega) (Nat.le_of_ble_eq_true rfl) (Nat.le_of_ble_eq_true rfl) (Nat.le_of_ble_eq_true rfl) (Nat.le_of_ble_eq_true rfl) (fun u111 h111 => ?_)
        obtain rfl := h111
        refine fin2 _ rfl (fun a ha => ((((Sm.al (by omega)).tr (Sm.wI (by omega))).tr (Sm.wR (by omega))).tr (Sm.wR (by omega)))) (by simp [sz_wI, kd_wI, ln_wI, iv_wI, rv_wI, sz_wR, kd_wR, ln_wR, iv_wR, rv_wR, sz_al, kd_al, ln_al, iv_al, rv_al]) (by simp [sz_wI, kd_wI, ln_wI, iv_wI, rv_wI, sz_wR, kd_wR, ln_wR, iv_wR, rv_wR, sz_al, kd_al, ln_al, iv_al, rv_al]) (by simp [sz_wI, kd_wI, ln_wI, iv_wI, rv_wI, sz_wR, kd_wR, ln_wR, iv_wR, rv_wR, sz_al, kd_al, ln_al, iv_al, rv_al]) (Or.inr ⟨by omega, by simp [sz_wI, kd_wI, ln_wI, iv_wI, rv_wI, sz_wR, kd_wR, ln_wR, iv_wR, rv_wR, sz_al, kd_al, ln_al, iv_al, rv_al], by simp [sz_wI, kd_wI, ln_wI, iv_wI, rv_wI, sz_wR, kd_wR, ln_wR, iv_wR, rv_wR, sz_al, kd_al, ln_al, iv_al, rv_al]⟩)
      · 
        refine nX4_14 ho dX4_put_89 (Nat.le_of_ble_eq_true rfl) (Nat.le_of_ble_eq_true rfl) ?_
        refine z_dup ho dX4_put_92 rfl ?_
        refine z_iload_n ho dX4_put_93 rfl ?_
        refine z_aload_n ho dX4_put_94 rfl ?_
        refine z_aload ho dX4_put_95 rfl ?_
        refine kX4_49 ho hN (c_Fork_init_2 _ _ (by rw [kd_al, if_pos rfl])) dX4_put_97 (by have := hw1.2.2; omega) (Nat.le_of_ble_eq_true rfl) (Nat.le_of_ble_eq_true rfl) (Nat.le_of_ble_eq_true rfl) (Nat.le_of_ble_eq_true rfl) (fun u97 h97 => ?_)
        obtain rfl := h97
        refine z_goto (tgt := 114) ho dX4_put_100 (by decide) ?_
        refine fin2 _ rfl (fun a ha => ((((Sm.al (by omega)).tr (Sm.wI (by omega))).tr (Sm.wR (by omega))).tr (Sm.wR (by omega)))) (by simp [sz_wI, kd_wI, ln_wI, iv_wI, rv_wI, sz_wR, kd_wR, ln_wR, iv_wR, rv_wR, sz_al, kd_al, ln_al, iv_al, rv_al]) (by simp [sz_wI, kd_wI, ln_wI, iv_wI, rv_wI, sz_wR, kd_wR, ln_wR, iv_wR, rv_wR, sz_al, kd_al, ln_al, iv_al, rv_al]) (by simp [sz_wI, kd_wI, ln_wI, iv_wI, rv_wI, sz_wR, kd_wR, ln_wR, iv_wR, rv_wR, sz_al, kd_al, ln_al, iv_al, rv_al]) (Or.inl ⟨c86, by simp [sz_wI, kd_wI, ln_wI, iv_wI, rv_wI, sz_wR, kd_wR, ln_wR, iv_wR, rv_wR, sz_al, kd_al, ln_al, iv_al, rv_al], by simp [sz_wI, kd_wI, ln_wI, iv_wI, rv_wI, sz_wR, kd_wR, ln_wR, iv_wR, rv_wR, sz_al, kd_al, ln_al, iv_al, rv_al]⟩)
    have key : ∀ (n f up : Nat) (Ls ef Rs fp' : List Nat), FT u1 n f ef fp' → Hol u1 (sz_ u) t up f (tx u1 e) ef fp' Ls Rs x28 → Cut u1 es e x24 Ls ef Rs → (∀ x ∈ fp', x < sz_ u) → (up = 0 ∨ up < sz_ u) → (up = 0 ∨ (kd_ u1 up = 15 ∧ 0 ≤ iv_ u1 up 0 ∧ iv_ u1 up 0 < 136)) → Z X 41 [some (aR t), some (aR e), some (aR (sz_ u)), some (aI x28), some (aR up), some (aR f), none] [] u1 1 4 := by
      intro n
      induction n with
      | zero => intro f up Ls ef Rs fp' h; exact h.elim
      | succ n ih =>
        intro f up Ls ef Rs fp' h hol hc hfl hup hup2
        have h' := h
        have hm' := FT.mem u1 _ _ _ _ h
        obtain ⟨hkf, h⟩ := h
        refine z_aload ho dX4_put_41 rfl ?_
        refine gX4_13 ho dX4_put_43 hkf ?_
        refine z_ifnonnull (tgt := 81) ho dX4_put_46 (by decide) (fun c46 => ?_) (fun c46 => ?_)
        · exact fin _ _ _ _ _ _ _ h' hol hc (Or.inl c46) hfl hup hup2
        · rcases h with ⟨e, g1, g2, rfl, rfl⟩ | ⟨g1, g2, g3, es1, es2, fp1, fp2, f1, f2, rfl, rfl, d1, d2, d3, b1, b2, b3⟩
          · rw [g1] at c46
            exact absurd c46 (g2.ne0 hw1)
          · 
            refine z_aload ho dX4_put_49 rfl ?_
            refine gX4_19 ho dX4_put_51 hkf ?_
            refine z_iload_n ho dX4_put_54 rfl ?_
            refine z_icmp_ge (tgt := 81) ho dX4_put_55 (by decide) (by unfold rng; omega) (by unfold rng; omega) (fun c55 => ?_) (fun c55 => ?_)
            · exact fin _ _ _ _ _ _ _ h' hol hc (Or.inr c55) hfl hup hup2
            · have h01 := bitL_01 (tx u1 e) (iv_ u1 f 0)
              obtain ⟨s0, s1⟩ := Cut.step (n := n) (fp1 := fp1) (fp2 := fp2) he1.1.1 hc hd.2.1 c55 g2 hm'.2.1 b1 b2 b3
              obtain ⟨o0, o1⟩ := Hol.step hw1 ht1 hkf g1 g2 g3 c55 f1 f2 d1 d2 d3 b1 b2 b3 hfl hol
              refine z_aload ho dX4_put_58 rfl ?_
              refine z_astore ho dX4_put_60 (Nat.le_of_ble_eq_true rfl) rfl ?_
              refine z_aload ho dX4_put_62 rfl ?_
              refine z_aload_n ho dX4_put_64 rfl ?_
              refine z_aload ho dX4_put_65 rfl ?_
              refine gX4_19 ho dX4_put_67 hkf ?_
              refine kX4_48 ho hN (c_bit _ _ he1.1.1 g2 (by omega)) dX4_put_70 he1.1.2 (Nat.le_of_ble_eq_true rfl) (Nat.le_of_ble_eq_true rfl) (Nat.le_of_ble_eq_true rfl) (Nat.le_of_ble_eq_true rfl) (fun x70 u70 h70 => ?_)
              obtain ⟨rfl, rfl⟩ := h70
              refine kX4_28 ho hN (c_Fork_to _ _ hkf (by unfold rng; omega)) dX4_put_73 (by assumption) (Nat.le_of_ble_eq_true rfl) (Nat.le_of_ble_eq_true rfl) (Nat.le_of_ble_eq_true rfl) (Nat.le_of_ble_eq_true rfl) (fun x73 u73 h73 => ?_)
              obtain ⟨rfl, rfl⟩ := h73
              refine z_astore ho dX4_put_76 (Nat.le_of_ble_eq_true rfl) rfl ?_
              refine z_goto (tgt := 41) ho dX4_put_78 (by decide) ?_
              by_cases hz : bitL (tx u1 e) (iv_ u1 f 0) = 0
              · rw [if_pos hz]
                exact ih _ _ _ _ _ _ f1 (o0 hz) (s0 hz) (fun x hx => hfl x (by simp [hx])) (Or.inr (hfl f (by simp))) (Or.inr ⟨hkf, g2, g3⟩)
              · rw [if_neg hz]
                exact ih _ _ _ _ _ _ f2 (o1 hz) (s1 (by omega)) (fun x hx => hfl x (by simp [hx])) (Or.inr (hfl f (by simp))) (Or.inr ⟨hkf, g2, g3⟩)
    exact key n _ 0 [] es [] fp hf1 (Hol.root hw1 hf1) ⟨by simp, h1, fun x hx => by simp at hx, fun x hx => by simp at hx⟩ hfl (Or.inl rfl) (Or.inl rfl)
  · 
    refine z_aload_n ho dX4_put_16 rfl ?_
    refine z_aload_n ho dX4_put_17 rfl ?_
    refine pX4_7 ho dX4_put_18 ht1  ?_
    refine r_V ho dX4_put_21 (Nat.le_of_ble_eq_true rfl) (Nat.le_of_ble_eq_true rfl) ?_
    have hS0 : S = [] := by
      rcases hT with ⟨-, h⟩ | ⟨n, es, fp, hf, hS⟩
      · exact h
      · have := hf.kd
        rw [← hrt, c13] at this
        have := hw.1 0 (by omega)
        omega
    subst hS0
    have sm : ∀ a, a ≠ t → Sm u1 (wR_ u1 t 2 (sz_ u)) a := fun a ha => Sm.wR ha
    have kx : e ≠ t := fun q => by rw [q] at he; have := he.2; omega
    have kx2 : e + 1 ≠ t := fun q => by have := he.1.2.2.1; rw [q] at this; omega
    obtain ⟨k1, k2⟩ := he1.1.1.same (sm e kx) (sm (e + 1) kx2)
    refine ⟨fun S' hS' => ⟨ht1, Or.inr ⟨1, [e], [sz_ u], ⟨?_, Or.inl ⟨e, ?_, ⟨k1, he1.1.2⟩, rfl, by rw [rv_wR, if_pos ⟨rfl, rfl⟩]⟩⟩, fun x => by rw [hS' x]; simp⟩⟩, hF1.nR (Or.inr (Or.inr rfl)), fun i => hivt i⟩
    · rw [rv_wR, if_pos ⟨rfl, rfl⟩]; exact hkL
    · rw [rv_wR, if_neg (fun q => absurd q.2 (by decide)), rv_wR, if_pos ⟨rfl, rfl⟩]; exact hrL
theorem c_BT_take (l : Launch) (u : Mem) {t e : Nat} {S : List Nat} (hT : BT u t S) (he : e ∈ S) : Mt_ l yX4_take cX4_take 5 none 2 0 0 [aR t, aR e] u (qV fun u' => (∀ S', (∀ x, x ∈ S' ↔ x ∈ S ∧ x ≠ e) → BT u' t S') ∧ Fr (Q4 t) u u' ∧ ∀ i, iv_ u' t i = iv_ u t i) := by
  obtain ⟨ht, hT⟩ := hT
  refine Mt_of (by decide) (Nat.le_of_ble_eq_true rfl) (fun X ho hX hN hI => ?_)
  subst hX
  show Z X 0 [some (aR t), some (aR e), none, none, none] [] u 0 0
  refine z_wf (fun hw => ?_)
  have htl := hw.1 t (by omega)
  rcases hT with ⟨-, rfl⟩ | ⟨n, es, fp, hf, hS⟩
  · simp at he
  have hm := FT.mem u _ _ _ _ hf
  have hen := hm.2.1 e ((hS e).mp he)
  have hso := FT.sorted _ _ _ _ hf
  have hnd : ∀ {A B C : List Nat}, es = A ++ (B ++ C) → (∀ x ∈ A, x ∉ B ∧ x ∉ C) ∧ (∀ x ∈ B, x ∉ C) := fun {A B C} h => by
    rw [h] at hso
    obtain ⟨-, h2, h3⟩ := List.pairwise_append.mp hso
    obtain ⟨-, -, h4⟩ := List.pairwise_append.mp h2
    refine ⟨fun x hx => ⟨fun q => li_irr _ (h3 x hx x (by simp [q])), fun q => li_irr _ (h3 x hx x (by simp [q]))⟩, fun x hx q => li_irr _ (h4 x hx x q)⟩
  refine z_null ho dX4_take_0 ?_
  refine z_astore_n ho dX4_take_1 (Nat.le_of_ble_eq_true rfl) rfl ?_
  refine z_null ho dX4_take_2 ?_
  refine z_astore_n ho dX4_take_3 (Nat.le_of_ble_eq_true rfl) rfl ?_
  refine z_aload_n ho dX4_take_4 rfl ?_
  refine gX4_7 ho dX4_take_5 ht ?_
  refine z_astore ho dX4_take_8 (Nat.le_of_ble_eq_true rfl) rfl ?_
  have key : ∀ (n f up upper : Nat) (Ls ef Rs fpf : List Nat), FT u n f ef fpf → e ∈ ef →
      ((up = 0 ∧ Ls = [] ∧ Rs = [] ∧ ef = es) ∨ (kd_ u up = 15 ∧ 0 ≤ iv_ u up 0 ∧ iv_ u up 0 < 136 ∧ ∃ m es1 es2 fp1 fp2, Hol u (sz_ u) t upper up (tx u e) (es1 ++ es2) (up :: (fp1 ++ fp2)) Ls Rs 136 ∧ (upper = 0 ∨ (kd_ u upper = 15 ∧ 0 ≤ iv_ u upper 0 ∧ iv_ u upper 0 < 136)) ∧ FT u m (rv_ u up 1) es1 fp1 ∧ FT u m (rv_ u up 2) es2 fp2 ∧ up ∉ fp1 ∧ up ∉ fp2 ∧ (∀ x ∈ fp1, x ∉ fp2) ∧ es = Ls ++ ((es1 ++ es2) ++ Rs) ∧ ((bitL (tx u e) (iv_ u up 0) = 0 ∧ ef = es1) ∨ (bitL (tx u e) (iv_ u up 0) = 1 ∧ ef = es2)))) →
      (∃ Ls Rs, Hol u (sz_ u) t up f (tx u e) ef fpf Ls Rs 136 ∧ es = Ls ++ (ef ++ Rs)) → (up = 0 ∨ (kd_ u up = 15 ∧ 0 ≤ iv_ u up 0 ∧ iv_ u up 0 < 136)) →
      Z X 10 [some (aR t), some (aR e), some (aR upper), some (aR up), some (aR f)] [] u 0 0 := by
    intro n
    induction n with
    | zero => intro f up upper Ls ef Rs fpf h; exact h.elim
    | succ n ih =>
      intro f up upper Ls ef Rs fpf h hin hcase hhol hup2
      have hm' := FT.mem u _ _ _ _ h
      have h' := h
      obtain ⟨hkf, h⟩ := h
      refine z_aload ho dX4_take_10 rfl ?_
      refine gX4_13 ho dX4_take_12 hkf ?_
      refine z_ifnonnull (tgt := 42) ho dX4_take_15 (by decide) (fun c15 => ?_) (fun c15 => ?_)
      · rcases h with ⟨e', g1, g2, rfl, rfl⟩ | ⟨g1, -⟩
        · have hee : e = e' := List.mem_singleton.mp hin
          subst hee
          refine z_aload_n ho dX4_take_42 rfl ?_
          refine z_ifnonnull (tgt := 54) ho dX4_take_43 (by decide) (fun c43 => ?_) (fun c43 => ?_)
          · have hcase := hcase.resolve_left (fun q => c43 q.1)
            obtain ⟨kup, i0, i1, m, es1, es2, fp1, fp2, hol, hupper, f1, f2, d1, d2, d3, hes, hside⟩ := hcase
            have h01 := bitL_01 (tx u e) (iv_ u up 0)
            refine z_aload_n ho dX4_take_54 rfl ?_
            refine z_aload_n ho dX4_take_55 rfl ?_
            refine z_aload_n ho dX4_take_56 rfl ?_
            refine z_aload_n ho dX4_take_57 rfl ?_
            refine z_iconst ho dX4_take_58 ?_
            refine z_aload_n ho dX4_take_59 rfl ?_
            refine z_aload_n ho dX4_take_60 rfl ?_
            refine gX4_19 ho dX4_take_61 kup ?_
            refine kX4_48 ho hN (c_bit _ _ hen.1 i0 (by omega)) dX4_take_64 hen.2 (Nat.le_of_ble_eq_true rfl) (Nat.le_of_ble_eq_true rfl) (Nat.le_of_ble_eq_true rfl) (Nat.le_of_ble_eq_true rfl) (fun x64 u64 h64 => ?_)
            obtain ⟨rfl, rfl⟩ := h64
            refine z_isub ho dX4_take_67 ?_
            refine kX4_28 ho hN (c_Fork_to _ _ kup (by unfold rng; omega)) dX4_take_68 kup (Nat.le_of_ble_eq_true rfl) (Nat.le_of_ble_eq_true rfl) (Nat.le_of_ble_eq_true rfl) (Nat.le_of_ble_eq_true rfl) (fun x68 u68 h68 => ?_)
            obtain ⟨rfl, rfl⟩ := h68
            refine kX4_52 ho hN (c_join _ _ ht hupper hen.1) dX4_take_71 ht (Nat.le_of_ble_eq_true rfl) (Nat.le_of_ble_eq_true rfl) (Nat.le_of_ble_eq_true rfl) (Nat.le_of_ble_eq_true rfl) (fun u71 h71 => ?_)
            obtain rfl := h71
            refine r_V ho dX4_take_74 (Nat.le_of_ble_eq_true rfl) (Nat.le_of_ble_eq_true rfl) ?_
            have hup0 := (hw.1 up (by omega))
            have hupt : upper = 0 ∨ (upper < sz_ u ∧ upper ≠ t) := by
              rcases hupper with q | q
              · exact Or.inl q
              · refine Or.inr ⟨(hw.1 upper (by omega)).1, fun w => ?_⟩
                rw [w] at q; omega
            generalize hg : (if 1 - bitL (tx u e) (iv_ u up 0) = 0 then rv_ u up 1 else rv_ u up 2) = g
            have pl : Plug u (jn u t upper (tx u e) g) t upper (tx u e) g (up :: (fp1 ++ fp2)) := jn_Plug htl.1 (Nat.le_refl _) (fun a _ => Sm.rf u a) hupt
            have fr : Fr (Q4 t) u (jn u t upper (tx u e) g) := jn_Fr (Fr.rf _ u) (by rcases hupper with q | q; (· exact Or.inl q); exact Or.inr q.1)
            have smx : ∀ a, a ≠ t → a ≠ upper → Sm u (jn u t upper (tx u e) g) a := by
              intro a h1 h2
              unfold jn
              split
              · exact Sm.wR h1
              · split <;> exact Sm.wR h2
            have iv3 : ∀ i, iv_ (jn u t upper (tx u e) g) t i = iv_ u t i := fun i => jn_iv _ _ _ _ _ _ _
            generalize hu3 : jn u t upper (tx u e) g = u3 at pl fr smx iv3
            have hnu := hol.2.1.1
            have key2 : ∀ (ea fa : List Nat), FT u m g ea fa → (∀ x ∈ fa, x ∈ fp1 ++ fp2) → (∀ x ∈ ea, x ∈ es1 ++ es2) → (∀ x, x ∈ es ∧ x ≠ e ↔ x ∈ Ls ++ (ea ++ Rs)) → (∀ S', (∀ x, x ∈ S' ↔ x ∈ S ∧ x ≠ e) → BT u3 t S') ∧ Fr (Q4 t) u u3 ∧ ∀ i, iv_ u3 t i = iv_ u t i := by
              intro ea fa hg hfa hea hmem
              have hma := FT.mem u _ _ _ _ hg
              have htx3 : ∀ x ∈ ea, En u3 x ∧ tx u3 x = tx u x := FT.en hg (fun x hx => by
                have en := hma.2.1 x hx
                have := en.ne0 hw
                exact ⟨smx x (fun q => by rw [q] at en; have := en.2; omega) (fun q => by rcases hupper with w | w; (· omega); rw [← q, en.2] at w; omega), smx (x + 1) (fun q => by have := en.1.2.2.1; rw [q] at this; omega) (fun q => by rcases hupper with w | w; (· omega); have := en.1.2.2.1; rw [q] at this; omega)⟩)
              have hg3 : FT u3 m g ea fa := FT.frame _ _ _ _ hg (fun x hx => smx x (fun q => by have := hma.2.2.2 x hx; rw [q] at this; omega) (fun q => hnu (by rw [← q]; exact List.mem_cons_of_mem _ (hfa x hx)))) htx3
              obtain ⟨m', fp', hh⟩ := hol.2.2 u3 g ea fa m pl hg3 (fun x hx => Or.inl (List.mem_cons_of_mem _ (hfa x hx))) (fun x hx => ⟨x, hea x hx, agr.all (htx3 x hx).2 _⟩)
              exact ⟨fun S' hS' => ⟨by rw [(fr.2 t htl.1).1]; exact ht, Or.inr ⟨m', _, fp', hh, fun x => by rw [hS' x, hS x]; exact hmem x⟩⟩, fr, iv3⟩
            have nd := hnd hes
            have nd2 := hnd (A := Ls ++ es1) (B := es2) (C := Rs) (by rw [hes]; simp [List.append_assoc])
            rcases hside with ⟨hb, hef⟩ | ⟨hb, hef⟩
            · rw [hb, if_neg (by decide)] at hg
              subst hg
              refine key2 es2 fp2 f2 (fun x hx => by simp [hx]) (fun x hx => by simp [hx]) (fun x => ?_)
              subst hef
              rw [hes]
              simp only [List.mem_append, List.mem_singleton]
              constructor
              · rintro ⟨q | (q | q) | q, hne⟩
                · exact Or.inl q
                · exact absurd q hne
                · exact Or.inr (Or.inl q)
                · exact Or.inr (Or.inr q)
              · rintro (q | q | q)
                · exact ⟨Or.inl q, fun w => (nd.1 x q).1 (by simp [w])⟩
                · exact ⟨Or.inr (Or.inl (Or.inr q)), fun w => (nd2.1 x (by simp [w])).1 q⟩
                · exact ⟨Or.inr (Or.inr q), fun w => nd.2 x (by simp [w]) q⟩
            · rw [hb, if_pos (by decide)] at hg
              subst hg
              refine key2 es1 fp1 f1 (fun x hx => by simp [hx]) (fun x hx => by simp [hx]) (fun x => ?_)
              subst hef
              rw [hes]
              simp only [List.mem_append, List.mem_singleton]
              constructor
              · rintro ⟨q | (q | q) | q, hne⟩
                · exact Or.inl q
                · exact Or.inr (Or.inl q)
                · exact absurd q hne
                · exact Or.inr (Or.inr q)
              · rintro (q | q | q)
                · exact ⟨Or.inl q, fun w => (nd.1 x q).1 (by simp [w])⟩
                · exact ⟨Or.inr (Or.inl (Or.inl q)), fun w => (nd2.1 x (by simp [q])).1 (by simp [w])⟩
                · exact ⟨Or.inr (Or.inr q), fun w => nd.2 x (by simp [w]) q⟩
          · 
            refine z_aload_n ho dX4_take_46 rfl ?_
            refine z_null ho dX4_take_47 ?_
            refine pX4_7 ho dX4_take_48 ht  ?_
            refine z_goto (tgt := 74) ho dX4_take_51 (by decide) ?_
            refine r_V ho dX4_take_74 (Nat.le_of_ble_eq_true rfl) (Nat.le_of_ble_eq_true rfl) ?_
            have hes : [e] = es := by
              rcases hcase with q | q
              · exact q.2.2.2
              · have := hw.1 up (by omega)
                omega
            refine ⟨fun S' hS' => ⟨ht, Or.inl ⟨by rw [rv_wR, if_pos ⟨rfl, rfl⟩], ?_⟩⟩, (Fr.rf _ u).nR (Or.inr (Or.inr rfl)), fun i => rfl⟩
            refine List.eq_nil_iff_forall_not_mem.mpr (fun x hx => ?_)
            have := (hS' x).mp hx
            rw [hS x, ← hes] at this
            exact this.2 (List.mem_singleton.mp this.1)
        · exact absurd g1 c15
      · rcases h with ⟨e', g1, g2, rfl, rfl⟩ | ⟨g1, g2, g3, es1, es2, fp1, fp2, f1, f2, rfl, rfl, d1, d2, d3, b1, b2, b3⟩
        · rw [g1] at c15
          exact absurd c15 (g2.ne0 hw)
        · have h01 := bitL_01 (tx u e) (iv_ u f 0)
          obtain ⟨L0, R0, hol, hes⟩ := hhol
          obtain ⟨o0, o1⟩ := Hol.step hw ht hkf g1 g2 g3 (by omega) f1 f2 d1 d2 d3 b1 b2 b3 (fun x hx => (hw.1 x (by have := hm'.2.2.2 x hx; omega)).1) hol
          refine z_aload_n ho dX4_take_18 rfl ?_
          refine z_astore_n ho dX4_take_19 (Nat.le_of_ble_eq_true rfl) rfl ?_
          refine z_aload ho dX4_take_20 rfl ?_
          refine z_astore_n ho dX4_take_22 (Nat.le_of_ble_eq_true rfl) rfl ?_
          refine z_aload ho dX4_take_23 rfl ?_
          refine z_aload_n ho dX4_take_25 rfl ?_
          refine z_aload ho dX4_take_26 rfl ?_
          refine gX4_19 ho dX4_take_28 hkf ?_
          refine kX4_48 ho hN (c_bit _ _ hen.1 g2 (by omega)) dX4_take_31 hen.2 (Nat.le_of_ble_eq_true rfl) (Nat.le_of_ble_eq_true rfl) (Nat.le_of_ble_eq_true rfl) (Nat.le_of_ble_eq_true rfl) (fun x31 u31 h31 => ?_)
          obtain ⟨rfl, rfl⟩ := h31
          refine kX4_28 ho hN (c_Fork_to _ _ hkf (by unfold rng; omega)) dX4_take_34 (by assumption) (Nat.le_of_ble_eq_true rfl) (Nat.le_of_ble_eq_true rfl) (Nat.le_of_ble_eq_true rfl) (Nat.le_of_ble_eq_true rfl) (fun x34 u34 h34 => ?_)
          obtain ⟨rfl, rfl⟩ := h34
          refine z_astore ho dX4_take_37 (Nat.le_of_ble_eq_true rfl) rfl ?_
          refine z_goto (tgt := 10) ho dX4_take_39 (by decide) ?_
          by_cases hz : bitL (tx u e) (iv_ u f 0) = 0
          · rw [if_pos hz]
            have hin' : e ∈ es1 := by
              rcases List.mem_append.mp hin with q | q
              · exact q
              · have := b2 e q; omega
            exact ih _ _ _ _ _ _ _ f1 hin' (Or.inr ⟨hkf, g2, g3, n, es1, es2, fp1, fp2, hol, hup2, f1, f2, d1, d2, d3, hes, Or.inl ⟨hz, rfl⟩⟩) ⟨_, _, o0 hz, by rw [hes]; simp [List.append_assoc]⟩ (Or.inr ⟨hkf, g2, g3⟩)
          · rw [if_neg hz]
            have hin' : e ∈ es2 := by
              rcases List.mem_append.mp hin with q | q
              · have := b1 e q; omega
              · exact q
            exact ih _ _ _ _ _ _ _ f2 hin' (Or.inr ⟨hkf, g2, g3, n, es1, es2, fp1, fp2, hol, hup2, f1, f2, d1, d2, d3, hes, Or.inr ⟨by omega, rfl⟩⟩) ⟨_, _, o1 hz, by rw [hes]; simp [List.append_assoc]⟩ (Or.inr ⟨hkf, g2, g3⟩)
  exact key n _ 0 0 [] es [] fp hf ((hS e).mp he) (Or.inl ⟨rfl, rfl, rfl, rfl⟩) ⟨[], [], Hol.root hw hf, by simp⟩ (Or.inl rfl)
/-- the frame of a BitTree: any change but in its own cells and texts -/
theorem BT.frame {u u' : Mem} {t : Nat} {S : List Nat} (hT : BT u t S) (hs : ∀ a, (kd_ u a = 15 ∨ a = t) → kd_ u' a = kd_ u a ∧ (∀ i, rv_ u' a i = rv_ u a i) ∧ (kd_ u a = 15 → Sm u u' a)) (he : ∀ e ∈ S, En u e → En u' e ∧ tx u' e = tx u e) : BT u' t S := by
  obtain ⟨ht, hT⟩ := hT
  have h1 := hs t (Or.inr rfl)
  refine ⟨by rw [h1.1]; exact ht, ?_⟩
  rcases hT with ⟨h0, rfl⟩ | ⟨n, es, fp, hf, hS⟩
  · exact Or.inl ⟨by rw [h1.2.1]; exact h0, rfl⟩
  · have hm := FT.mem u _ _ _ _ hf
    refine Or.inr ⟨n, es, fp, ?_, hS⟩
    rw [h1.2.1]
    exact FT.frame _ _ _ _ hf (fun x hx => (hs x (Or.inl (hm.2.2.2 x hx))).2.2 (hm.2.2.2 x hx)) (fun e h => he e ((hS e).mpr h) (hm.2.1 e h))
