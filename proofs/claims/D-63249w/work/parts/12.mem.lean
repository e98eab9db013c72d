set_option maxRecDepth 100000
theorem fv_same {K b : Nat} {u u' : Mem} (hi : ∀ i, iv_ u' b i = iv_ u b i) (hr : ∀ i, rv_ u' b i = rv_ u b i) : fv_ K u' b = fv_ K u b := by
  funext k
  unfold fv_
  rw [hi, hr]
theorem av_same {K b : Nat} {u u' : Mem} (hi : ∀ i, iv_ u' b i = iv_ u b i) (hr : ∀ i, rv_ u' b i = rv_ u b i) : av_ K u' b = av_ K u b := by
  funext k
  unfold av_
  rw [hi, hr]
theorem At_.keep {D : Dx_} {u u' : Mem} {H H' : Heap} {b : Nat} (h : At_ D u H b) (hH : H'[b]? = H[b]?) (hk : kd_ u' (b + 1) = kd_ u (b + 1)) (hl : ln_ u' (b + 1) = ln_ u (b + 1)) (hi : ∀ i, iv_ u' (b + 1) i = iv_ u (b + 1) i) (hr : ∀ i, rv_ u' (b + 1) i = rv_ u (b + 1) i) : At_ D u' H' b := by
  unfold At_ at h ⊢
  rw [hk, hl, fv_same hi hr, av_same hi hr]
  rcases h with ⟨h1, h2⟩ | ⟨h1, h2, h3, h4⟩
  · exact Or.inl ⟨h1, h2.kept hH⟩
  · exact Or.inr ⟨h1, h2, h3, by rw [hH]; exact h4⟩
/-- one cell is written -/
theorem Rep_.upd {D : Dx_} {B : Nat} {u u' : Mem} {H H' : Heap} {a : Nat} (h : Rep_ D B u H) (hs : sz_ u' = sz_ u) (hk : ∀ b, kd_ u' b = kd_ u b) (hl : ∀ b, ln_ u' b = ln_ u b) (hi : ∀ b, b ≠ a + 1 → ∀ i, iv_ u' b i = iv_ u b i) (hr : ∀ b, b ≠ a + 1 → ∀ i, rv_ u' b i = rv_ u b i)
    (hz : H'.size = H.size) (ho : ∀ q, q ≠ a → H'[q]? = H[q]?) (hat : At_ D u' H' a) : Rep_ D B u' H' := by
  refine ⟨by rw [hs, hz]; exact h.1, by rw [hk]; exact h.2.1, fun b hb => ?_, fun b h1 h2 => by rw [hk]; exact h.2.2.2 b h1 (by rw [← hz]; exact h2)⟩
  rw [hk] at hb
  obtain ⟨h1, h2⟩ := h.2.2.1 b hb
  refine ⟨h1, ?_⟩
  by_cases e : b = a
  · subst e; exact hat
  · exact h2.keep (ho b e) (hk _) (hl _) (hi _ (by omega)) (hr _ (by omega))
/-- one cell is new -/
theorem Rep_.new {D : Dx_} {B : Nat} {u u' : Mem} {H H' : Heap} (h : Rep_ D B u H) (hB : B ≤ H.size) (hs : sz_ u' = sz_ u + 1) (hk : ∀ b, b ≠ sz_ u → kd_ u' b = kd_ u b) (hl : ∀ b, b ≠ sz_ u → ln_ u' b = ln_ u b) (hi : ∀ b, b ≠ sz_ u → ∀ i, iv_ u' b i = iv_ u b i) (hr : ∀ b, b ≠ sz_ u → ∀ i, rv_ u' b i = rv_ u b i)
    (hz : H'.size = H.size + 1) (ho : ∀ q, q < H.size → H'[q]? = H[q]?) (hkn : kd_ u' (sz_ u) ≠ 0) (hat : At_ D u' H' H.size) : Rep_ D B u' H' := by
  have h1 := h.1
  refine ⟨by rw [hs, hz, h1], by rw [hk 0 (by omega)]; exact h.2.1, fun b hb => ?_, fun b g1 g2 => ?_⟩
  rotate_left
  · by_cases e : b = H.size
    · rw [e, ← h1]; exact hkn
    · rw [hk _ (by omega)]; exact h.2.2.2 b g1 (by omega)
  by_cases e : b = H.size
  · subst e; exact ⟨hB, hat⟩
  · have hb' : b + 1 ≠ sz_ u := by omega
    rw [hk _ hb'] at hb
    obtain ⟨g1, g2⟩ := h.2.2.1 b hb
    exact ⟨g1, g2.keep (ho b g2.lt) (hk _ hb') (hl _ hb') (hi _ hb') (hr _ hb')⟩
theorem nF_of {K : Nat} {C : String} {T : u_T} {N : Nat} (hc : cls_[K]? = some (C, T, N)) : nF_ K = N := by unfold nF_; rw [hc]
theorem va_S.new {A : Nat → Prop} {H0 H H1 : Heap} {locs : List Loc} (h : va_S A H0 H locs) (z : H1.size = H.size + 1) (o : ∀ q, q < H.size → H1[q]? = H[q]?) : va_S A H0 H1 locs :=
  ⟨Nat.le_trans h.1 (by omega), fun q h1 h2 => (o q (Nat.lt_of_lt_of_le h1 h.1)).trans (h.2.1 q h1 h2), h.2.2⟩
section MEM
variable {X : Ctx_} {own : String} {cc : ByteArray} {ret : Option FieldType} {d mc ms : Nat} {Q : Option AV → Mem → Prop} {pc : Nat} {ls : List (Option AV)} {st : List AV} {u : Mem} {cu su : Nat}
/-- getfield, any field of an object of kind K -/
theorem z_get (ho : Ok_ X own cc ret d mc ms Q) {a K k idx : Nat} {ref C : String} {T : u_T} {N : Nat} (v : AV) (hc : cls_[K]? = some (C, T, N)) (hin : ∀ w ∈ u_ws C T N, w ∈ lw_all) (hK0 : K ≠ 0 ∧ K < 100) (hk : k < N) (hlink : Cond.fieldLink own idx ref (T k).2.1 (T k).2.2.1 ∈ lw_all)
    (hsame : ref = (T k).1 ∨ Cond.sameField ref (T k).1 (T k).2.1 (T k).2.2.1 ∈ lw_all) (hka : kd_ u a = K) (hv : fv_ K u a k = tV v) (hd : decode cc pc = .ok (.getfield idx, 3)) (kk : Z X (pc + 3) ls (v :: st) u cu su) : Z X pc ls (aR a :: st) u cu su := by
  obtain ⟨p, l, e, R, s, m, args, below, meth, c, D, B, F⟩ := X
  obtain ⟨hx, hb, hret, hlk, hown, hts, hK, hB, hRm, hF⟩ := ho
  intro H locs la hR hS hL
  cases a with
  | zero => rw [hR.2.1] at hka; exact absurd hka.symm hK0.1
  | succ a =>
    obtain ⟨cell, q1, q2, q3, q4⟩ := (hR.2.2.1 a (by rw [hka]; exact hK0.1)).2.obj hka hK0.2
    obtain ⟨hSl, hfc, kC, hkC, hkind⟩ := hK.1.1 K _ hc
    obtain ⟨cf, kf, fi, f, hi, hsl⟩ := hSl k hk
    have hi2 : s.fieldFound? ref (T k).2.1 (T k).2.2.1 = some (cf, kf, fi, f) := by
      rcases hsame with h | h
      · rw [h]; exact hi
      · exact u_same (hts _ h) _ hi
    refine W.getf hx hb hown (hts _ hlink) hi2 (u_facts hfc hkC (u_lays hts hin hk) hi).1 q1 (by rw [q3]; exact fun h => by cases h) (v := tV v) ?_ rfl rfl hd (kk H locs la hR hS hL)
    rw [hsl, q4 k (by rw [nF_of hc]; exact hk), hv]
theorem z_getN (ho : Ok_ X own cc ret d mc ms Q) {a K k idx : Nat} {ref C : String} {T : u_T} {N : Nat} (v : AV) (hc : cls_[K]? = some (C, T, N)) (hin : ∀ w ∈ u_ws C T N, w ∈ lw_all) (hK0 : K ≠ 0 ∧ K < 100) (hk : k < N) (hlink : (own, idx, ref, (T k).2.1, (T k).2.2.1) ∈ nestF_)
    (hsame : ref = (T k).1) (hka : kd_ u a = K) (hv : fv_ K u a k = tV v) (hd : decode cc pc = .ok (.getfield idx, 3)) (kk : Z X (pc + 3) ls (v :: st) u cu su) : Z X pc ls (aR a :: st) u cu su := by
  obtain ⟨p, l, e, R, s, m, args, below, meth, c, D, B, F⟩ := X
  obtain ⟨hx, hb, hret, hlk, hown, hts, hK, hB, hRm, hF⟩ := ho
  intro H locs la hR hS hL
  cases a with
  | zero => rw [hR.2.1] at hka; exact absurd hka.symm hK0.1
  | succ a =>
    have hat := (hR.2.2.1 a (by rw [hka]; exact hK0.1)).2.obj hka hK0.2
    have hP : va_P (D.1, D.2.1) cls_ [(a, .inr (K, (List.range N).map (fv_ K u (a + 1))))] H := by
      intro j q hj
      cases j with
      | zero =>
        cases hj
        refine ⟨_, hc, ?_⟩
        rw [nF_of hc] at hat
        exact hat.to (fun i hi => by simp [vp_V, hi])
      | succ j => simp at hj
    exact va_getN hx hb hts hin hown hK.1 hP 0 rfl hc k hk (va_Nw.use rfl (hK.2.1.1 _ hlink)) (fun x hx' => by rw [hsame]; exact hx') (by simp [hk, hv]) hd (kk H locs la hR hS hL)
/-- u' is u but for values of the cell a -/
def Wr_ (u u' : Mem) (a : Nat) : Prop := sz_ u' = sz_ u ∧ (∀ b, kd_ u' b = kd_ u b) ∧ (∀ b, ln_ u' b = ln_ u b) ∧ (∀ b, b ≠ a → ∀ i, iv_ u' b i = iv_ u b i) ∧ (∀ b, b ≠ a → ∀ i, rv_ u' b i = rv_ u b i)
theorem Wr_I (u : Mem) (a : Nat) (i x : Int) : Wr_ u (wI_ u a i x) a := ⟨rfl, fun _ => rfl, fun _ => rfl, fun b hb j => by rw [iv_wI, if_neg (fun h => hb h.1)], fun _ _ _ => rfl⟩
theorem Wr_R (u : Mem) (a : Nat) (i : Int) (x : Nat) : Wr_ u (wR_ u a i x) a := ⟨rfl, fun _ => rfl, fun _ => rfl, fun _ _ _ => rfl, fun b hb j => by rw [rv_wR, if_neg (fun h => hb h.1)]⟩
theorem fvI_k {K k a : Nat} {u : Mem} {x : Int} (h : rf_ K k = false) : fv_ K (wI_ u a k x) a k = tV (aI x) := by unfold fv_; rw [h, iv_wI]; simp [tV]
theorem fvR_k {K k a : Nat} {u : Mem} {x : Nat} (h : rf_ K k = true) : fv_ K (wR_ u a k x) a k = tV (aR x) := by unfold fv_; rw [h, rv_wR]; simp [tV]
theorem fvI_o {K k a : Nat} {u : Mem} {x : Int} (j : Nat) (h : j ≠ k) : fv_ K (wI_ u a k x) a j = fv_ K u a j := by
  have e : ¬ (a = a ∧ (j : Int) = (k : Int)) := by omega
  unfold fv_; rw [iv_wI, rv_wI, if_neg e]
theorem fvR_o {K k a : Nat} {u : Mem} {x : Nat} (j : Nat) (h : j ≠ k) : fv_ K (wR_ u a k x) a j = fv_ K u a j := by
  have e : ¬ (a = a ∧ (j : Int) = (k : Int)) := by omega
  unfold fv_; rw [iv_wR, rv_wR, if_neg e]
theorem fvI {K k a : Nat} {u : Mem} (h : rf_ K k = false) : fv_ K u a k = tV (aI (iv_ u a k)) := by unfold fv_; rw [h]; rfl
theorem fvR {K k a : Nat} {u : Mem} (h : rf_ K k = true) : fv_ K u a k = tV (aR (rv_ u a k)) := by unfold fv_; rw [h]; rfl
/-- putfield: the field k of an object of kind K becomes v; u' is the memory behind it -/
theorem z_put (ho : Ok_ X own cc ret d mc ms Q) {a K k idx : Nat} {ref C : String} {T : u_T} {N : Nat} (v : AV) (u' : Mem) (hc : cls_[K]? = some (C, T, N)) (hin : ∀ w ∈ u_ws C T N, w ∈ lw_all) (ty0 : Nat → FieldType) (hty : ∀ k, k < N → parseFieldDescriptor (T k).2.2.1 = some (ty0 k)) (hnm : ∀ a, a < N → ∀ b, b < N → a ≠ b → (T a).2.1 ≠ (T b).2.1)
    (hK0 : K ≠ 0 ∧ K < 100) (hk : k < N) (hlink : Cond.fieldLink own idx ref (T k).2.1 (T k).2.2.1 ∈ lw_all) (hsame : ref = (T k).1 ∨ Cond.sameField ref (T k).1 (T k).2.1 (T k).2.2.1 ∈ lw_all) (hfin : (T k).2.2.2 = false) (hn : narrow (ty0 k) (tV v) = tV v) (hfit : fits (ty0 k) (tV v) = true) (hka : kd_ u a = K) (hu : Wr_ u u' a) (hv : fv_ K u' a k = tV v) (hvo : ∀ j, j < N → j ≠ k → fv_ K u' a j = fv_ K u a j) (hd : decode cc pc = .ok (.putfield idx, 3)) (kk : Z X (pc + 3) ls st u' cu su) : Z X pc ls (v :: aR a :: st) u cu su := by
  obtain ⟨p, l, e, R, s, m, args, below, meth, c, D, B, F⟩ := X
  obtain ⟨hx, hb, hret, hlk, hown, hts, hK, hB, hRm, hF⟩ := ho
  intro H locs la hR hS hL
  cases a with
  | zero => rw [hR.2.1] at hka; exact absurd hka.symm hK0.1
  | succ a =>
    have hap := va_apart (own := own) hts hin ty0 hty hnm hK.1 hc
    obtain ⟨hBa, hAt⟩ := hR.2.2.1 a (by rw [hka]; exact hK0.1)
    obtain ⟨cell, q1, q2, q3, q4⟩ := hAt.obj hka hK0.2
    rw [nF_of hc] at q4
    obtain ⟨hSl, hfc, kC, hkC, hkind⟩ := hK.1.1 K _ hc
    obtain ⟨cf, kf, fi, f, hi, hsl⟩ := hSl k hk
    have hi2 : s.fieldFound? ref (T k).2.1 (T k).2.2.1 = some (cf, kf, fi, f) := by
      rcases hsame with h | h
      · rw [h]; exact hi
      · exact u_same (hts _ h) _ hi
    have hlay := hts _ (hin _ (u_in_lay hk))
    unfold u_lay at hlay
    have hst := (u_facts hfc hkC (u_lays hts hin hk) hi).1
    have fin : ∀ (H' : Heap) (locs' : List Loc), H'[a]? = some (cell.setSlot f.slot (tV v)) → H'.size = H.size → (∀ q, q ≠ a → H'[q]? = H[q]?) → locs' = locs ++ [⟨a, f.slot⟩] → W p l e R s m args below meth c H' locs' cu su F (F0 m (pc + 3) la (st.map tV)) := by
      intro H' locs' e1 e2 e3 e4
      subst e4
      rw [hsl] at e1
      refine kk H' _ la (hR.upd (a := a) hu.1 hu.2.1 hu.2.2.1 hu.2.2.2.1 hu.2.2.2.2 e2 e3 (Or.inl ⟨by rw [hu.2.1, hka]; exact hK0.2, ?_⟩)) (hS.put e2 e3 hBa) hL
      rw [hu.2.1, hka, nF_of hc]
      refine t_OB.to (V := updV (fv_ K u (a + 1)) k (tV v)) ⟨_, e1, q2, q3, t_set q4 hap hk (tV v)⟩ (fun j hj => ?_)
      unfold updV
      by_cases e : j = k
      · subst e; rw [if_pos rfl]; exact hv.symm
      · rw [if_neg e]; exact (hvo j hj e).symm
    rw [if_neg (by rw [hfin]; decide)] at hlay
    exact W.putK hx hb (f := f) ⟨hown, hts _ hlink, ⟨_, _, _, hi2⟩, hst⟩ (by rw [q2]; exact u_store hfc hkC hkind hlay hi (hty k hk) hn hfit) q1 q3 (by rw [hsl]; exact k2_hasslot (q4 k hk)) rfl rfl hd (fun H' e1 e2 e3 => fin H' _ e1 e2 e3 rfl)
/-- putfield: the field k of an object of kind K becomes v; u' is the memory behind it -/
theorem z_putF (ho : Ok_ X own cc ret d mc ms Q) (hinit : In_ X) {a K k idx : Nat} {ref C : String} {T : u_T} {N : Nat} (v : AV) (u' : Mem) (hc : cls_[K]? = some (C, T, N)) (hin : ∀ w ∈ u_ws C T N, w ∈ lw_all) (ty0 : Nat → FieldType) (hty : ∀ k, k < N → parseFieldDescriptor (T k).2.2.1 = some (ty0 k)) (hnm : ∀ a, a < N → ∀ b, b < N → a ≠ b → (T a).2.1 ≠ (T b).2.1)
    (hK0 : K ≠ 0 ∧ K < 100) (hk : k < N) (hlink : Cond.fieldLink own idx ref (T k).2.1 (T k).2.2.1 ∈ lw_all) (hsame : ref = (T k).1 ∨ Cond.sameField ref (T k).1 (T k).2.1 (T k).2.2.1 ∈ lw_all) (hfin : (T k).2.2.2 = true) (hdecl : (T k).1 = own) (hn : narrow (ty0 k) (tV v) = tV v) (hfit : fits (ty0 k) (tV v) = true) (hka : kd_ u a = K) (hu : Wr_ u u' a) (hv : fv_ K u' a k = tV v) (hvo : ∀ j, j < N → j ≠ k → fv_ K u' a j = fv_ K u a j) (hd : decode cc pc = .ok (.putfield idx, 3)) (kk : Z X (pc + 3) ls st u' cu su) : Z X pc ls (v :: aR a :: st) u cu su := by
  obtain ⟨p, l, e, R, s, m, args, below, meth, c, D, B, F⟩ := X
  obtain ⟨hx, hb, hret, hlk, hown, hts, hK, hB, hRm, hF⟩ := ho
  intro H locs la hR hS hL
  cases a with
  | zero => rw [hR.2.1] at hka; exact absurd hka.symm hK0.1
  | succ a =>
    have hap := va_apart (own := own) hts hin ty0 hty hnm hK.1 hc
    obtain ⟨hBa, hAt⟩ := hR.2.2.1 a (by rw [hka]; exact hK0.1)
    obtain ⟨cell, q1, q2, q3, q4⟩ := hAt.obj hka hK0.2
    rw [nF_of hc] at q4
    obtain ⟨hSl, hfc, kC, hkC, hkind⟩ := hK.1.1 K _ hc
    obtain ⟨cf, kf, fi, f, hi, hsl⟩ := hSl k hk
    have hi2 : s.fieldFound? ref (T k).2.1 (T k).2.2.1 = some (cf, kf, fi, f) := by
      rcases hsame with h | h
      · rw [h]; exact hi
      · exact u_same (hts _ h) _ hi
    have hlay := hts _ (hin _ (u_in_lay hk))
    unfold u_lay at hlay
    have hst := (u_facts hfc hkC (u_lays hts hin hk) hi).1
    have fin : ∀ (H' : Heap) (locs' : List Loc), H'[a]? = some (cell.setSlot f.slot (tV v)) → H'.size = H.size → (∀ q, q ≠ a → H'[q]? = H[q]?) → locs' = locs ++ [⟨a, f.slot⟩] → W p l e R s m args below meth c H' locs' cu su F (F0 m (pc + 3) la (st.map tV)) := by
      intro H' locs' e1 e2 e3 e4
      subst e4
      rw [hsl] at e1
      refine kk H' _ la (hR.upd (a := a) hu.1 hu.2.1 hu.2.2.1 hu.2.2.2.1 hu.2.2.2.2 e2 e3 (Or.inl ⟨by rw [hu.2.1, hka]; exact hK0.2, ?_⟩)) (hS.put e2 e3 hBa) hL
      rw [hu.2.1, hka, nF_of hc]
      refine t_OB.to (V := updV (fv_ K u (a + 1)) k (tV v)) ⟨_, e1, q2, q3, t_set q4 hap hk (tV v)⟩ (fun j hj => ?_)
      unfold updV
      by_cases e : j = k
      · subst e; rw [if_pos rfl]; exact hv.symm
      · rw [if_neg e]; exact (hvo j hj e).symm
    rw [if_pos hfin] at hlay
    have hcf : m.cls = cf := by
      obtain ⟨_, _, c', _, _, _, -, -, hf', -, -, -, hown2, -⟩ := Cond.laysFinal_spec hlay
      have e1 : c' = cf := by have := hi.symm.trans hf'; simp at this; exact this.1.symm
      rw [hdecl] at hown2
      rw [← e1]; exact Option.some.inj (hown.symm.trans hown2)
    exact W.putFinK hx hb hown (hts _ hlink) hi2 hst hcf hinit (by rw [q2]; exact u_fits hfc hkC hkind (Or.inr hlay) hi (hty k hk) hn hfit) q1 q3 (by rw [hsl]; exact k2_hasslot (q4 k hk)) rfl rfl hd (fun H' e1 e2 e3 => fin H' _ e1 e2 e3 rfl)
/-- putfield: the field k of an object of kind K becomes v; u' is the memory behind it -/
theorem z_putN (ho : Ok_ X own cc ret d mc ms Q) {a K k idx : Nat} {ref C : String} {T : u_T} {N : Nat} (v : AV) (u' : Mem) (hc : cls_[K]? = some (C, T, N)) (hin : ∀ w ∈ u_ws C T N, w ∈ lw_all) (ty0 : Nat → FieldType) (hty : ∀ k, k < N → parseFieldDescriptor (T k).2.2.1 = some (ty0 k)) (hnm : ∀ a, a < N → ∀ b, b < N → a ≠ b → (T a).2.1 ≠ (T b).2.1)
    (hK0 : K ≠ 0 ∧ K < 100) (hk : k < N) (hlink : (own, idx, ref, (T k).2.1, (T k).2.2.1) ∈ nestF_) (hsame : ref = (T k).1) (hfin : (T k).2.2.2 = false) (hn : narrow (ty0 k) (tV v) = tV v) (hfit : fits (ty0 k) (tV v) = true) (hka : kd_ u a = K) (hu : Wr_ u u' a) (hv : fv_ K u' a k = tV v) (hvo : ∀ j, j < N → j ≠ k → fv_ K u' a j = fv_ K u a j) (hd : decode cc pc = .ok (.putfield idx, 3)) (kk : Z X (pc + 3) ls st u' cu su) : Z X pc ls (v :: aR a :: st) u cu su := by
  obtain ⟨p, l, e, R, s, m, args, below, meth, c, D, B, F⟩ := X
  obtain ⟨hx, hb, hret, hlk, hown, hts, hK, hB, hRm, hF⟩ := ho
  intro H locs la hR hS hL
  cases a with
  | zero => rw [hR.2.1] at hka; exact absurd hka.symm hK0.1
  | succ a =>
    have hap := va_apart (own := own) hts hin ty0 hty hnm hK.1 hc
    obtain ⟨hBa, hAt⟩ := hR.2.2.1 a (by rw [hka]; exact hK0.1)
    obtain ⟨cell, q1, q2, q3, q4⟩ := hAt.obj hka hK0.2
    rw [nF_of hc] at q4
    obtain ⟨hSl, hfc, kC, hkC, hkind⟩ := hK.1.1 K _ hc
    obtain ⟨cf, kf, fi, f, hi, hsl⟩ := hSl k hk
    have hi2 : s.fieldFound? ref (T k).2.1 (T k).2.2.1 = some (cf, kf, fi, f) := by rw [hsame]; exact hi
    have hlay := hts _ (hin _ (u_in_lay hk))
    unfold u_lay at hlay
    have hst := (u_facts hfc hkC (u_lays hts hin hk) hi).1
    have fin : ∀ (H' : Heap) (locs' : List Loc), H'[a]? = some (cell.setSlot f.slot (tV v)) → H'.size = H.size → (∀ q, q ≠ a → H'[q]? = H[q]?) → locs' = locs ++ [⟨a, f.slot⟩] → W p l e R s m args below meth c H' locs' cu su F (F0 m (pc + 3) la (st.map tV)) := by
      intro H' locs' e1 e2 e3 e4
      subst e4
      rw [hsl] at e1
      refine kk H' _ la (hR.upd (a := a) hu.1 hu.2.1 hu.2.2.1 hu.2.2.2.1 hu.2.2.2.2 e2 e3 (Or.inl ⟨by rw [hu.2.1, hka]; exact hK0.2, ?_⟩)) (hS.put e2 e3 hBa) hL
      rw [hu.2.1, hka, nF_of hc]
      refine t_OB.to (V := updV (fv_ K u (a + 1)) k (tV v)) ⟨_, e1, q2, q3, t_set q4 hap hk (tV v)⟩ (fun j hj => ?_)
      unfold updV
      by_cases e : j = k
      · subst e; rw [if_pos rfl]; exact hv.symm
      · rw [if_neg e]; exact (hvo j hj e).symm
    rw [if_neg (by rw [hfin]; decide)] at hlay
    exact va_WputK hx hb (f := f) hown (va_Nw.use rfl (hK.2.1.1 _ hlink)) hi2 hst (by rw [q2]; exact u_store hfc hkC hkind hlay hi (hty k hk) hn hfit) q1 q3 (by rw [hsl]; exact k2_hasslot (q4 k hk)) rfl rfl hd (fun H' e1 e2 e3 => fin H' _ e1 e2 e3 rfl)
theorem av_I {K a j : Nat} {u : Mem} (h : K < 104) : av_ K u a j = .int (Int32.ofInt (iv_ u a j)) := by unfold av_; rw [if_pos h]
theorem av_L {a j : Nat} {u : Mem} : av_ 104 u a j = .long (Int64.ofInt (iv_ u a j)) := rfl
theorem av_R {K a j : Nat} {u : Mem} (h : 104 < K) : av_ K u a j = rV (rv_ u a j) := by unfold av_; rw [if_neg (by omega), if_neg (by omega)]
theorem lt_toNat {i n : Int} (h0 : 0 ≤ i) (h1 : i < n) : i.toNat < n.toNat := by omega
theorem ix_in {i n : Int} (h0 : 0 ≤ i) (h1 : i < n) (h2 : n < 2147483648) : vp_in (Int32.ofInt i) n.toNat := rg_in (by unfold rng; omega) h0 (by omega)
theorem ix_cl {i n : Int} (h0 : 0 ≤ i) (h1 : i < n) (h2 : n < 2147483648) : (Int32.ofInt i).toNatClampNeg = i.toNat := rg_clamp (by unfold rng; omega)
theorem z_iald (ho : Ok_ X own cc ret d mc ms Q) {a : Nat} {i : Int} (hd : decode cc pc = .ok (.iaload, 1)) (hka : kd_ u a = 100) (h0 : 0 ≤ i) (h1 : i < ln_ u a) (kk : Z X (pc + 1) ls (aI (iv_ u a i) :: st) u cu su) : Z X pc ls (aI i :: aR a :: st) u cu su := by
  obtain ⟨p, l, e, R, s, m, args, below, meth, c, D, B, F⟩ := X
  obtain ⟨hx, hb, hret, hlk, hown, hts, hK, hB, hRm, hF⟩ := ho
  intro H locs la hR hS hL
  cases a with
  | zero => rw [hR.2.1] at hka; cases hka
  | succ a =>
    obtain ⟨g0, g1, g2⟩ := (hR.2.2.1 a (by rw [hka]; decide)).2.arr hka (by decide)
    refine W.iald (v := tV (aI (iv_ u (a + 1) i))) hx hb g2 ((hK.1.2 0 _ rfl).1 _ _) (fun q => by cases q) ?_ ?_ rfl rfl hd (kk H locs la hR hS hL)
    · rw [arrV_size]; exact ix_in h0 h1 g1
    · rw [ix_cl h0 h1 g1, arrV_read _ _ (lt_toNat h0 h1)]
      unfold av_
      rw [if_pos (by decide), Int.toNat_of_nonneg h0]
      rfl
theorem z_cald (ho : Ok_ X own cc ret d mc ms Q) {a : Nat} {i : Int} (hd : decode cc pc = .ok (.caload, 1)) (hka : kd_ u a = 101) (h0 : 0 ≤ i) (h1 : i < ln_ u a) (kk : Z X (pc + 1) ls (aI (iv_ u a i) :: st) u cu su) : Z X pc ls (aI i :: aR a :: st) u cu su := by
  obtain ⟨p, l, e, R, s, m, args, below, meth, c, D, B, F⟩ := X
  obtain ⟨hx, hb, hret, hlk, hown, hts, hK, hB, hRm, hF⟩ := ho
  intro H locs la hR hS hL
  cases a with
  | zero => rw [hR.2.1] at hka; cases hka
  | succ a =>
    obtain ⟨g0, g1, g2⟩ := (hR.2.2.1 a (by rw [hka]; decide)).2.arr hka (by decide)
    refine W.cald (v := tV (aI (iv_ u (a + 1) i))) hx hb g2 ((hK.1.2 1 _ rfl).1 _ _) (fun q => by cases q) ?_ ?_ rfl rfl hd (kk H locs la hR hS hL)
    · rw [arrV_size]; exact ix_in h0 h1 g1
    · rw [ix_cl h0 h1 g1, arrV_read _ _ (lt_toNat h0 h1)]
      unfold av_
      rw [if_pos (by decide), Int.toNat_of_nonneg h0]
      rfl
theorem z_zald (ho : Ok_ X own cc ret d mc ms Q) {a : Nat} {i : Int} (hd : decode cc pc = .ok (.baload, 1)) (hka : kd_ u a = 102) (h0 : 0 ≤ i) (h1 : i < ln_ u a) (kk : Z X (pc + 1) ls (aI (iv_ u a i) :: st) u cu su) : Z X pc ls (aI i :: aR a :: st) u cu su := by
  obtain ⟨p, l, e, R, s, m, args, below, meth, c, D, B, F⟩ := X
  obtain ⟨hx, hb, hret, hlk, hown, hts, hK, hB, hRm, hF⟩ := ho
  intro H locs la hR hS hL
  cases a with
  | zero => rw [hR.2.1] at hka; cases hka
  | succ a =>
    obtain ⟨g0, g1, g2⟩ := (hR.2.2.1 a (by rw [hka]; decide)).2.arr hka (by decide)
    refine W.zald (v := tV (aI (iv_ u (a + 1) i))) hx hb g2 ((hK.1.2 2 _ rfl).1 _ _) (fun q => by cases q) ?_ ?_ rfl rfl hd (kk H locs la hR hS hL)
    · rw [arrV_size]; exact ix_in h0 h1 g1
    · rw [ix_cl h0 h1 g1, arrV_read _ _ (lt_toNat h0 h1)]
      unfold av_
      rw [if_pos (by decide), Int.toNat_of_nonneg h0]
      rfl
theorem z_bald (ho : Ok_ X own cc ret d mc ms Q) {a : Nat} {i : Int} (hd : decode cc pc = .ok (.baload, 1)) (hka : kd_ u a = 103) (h0 : 0 ≤ i) (h1 : i < ln_ u a) (kk : Z X (pc + 1) ls (aI (iv_ u a i) :: st) u cu su) : Z X pc ls (aI i :: aR a :: st) u cu su := by
  obtain ⟨p, l, e, R, s, m, args, below, meth, c, D, B, F⟩ := X
  obtain ⟨hx, hb, hret, hlk, hown, hts, hK, hB, hRm, hF⟩ := ho
  intro H locs la hR hS hL
  cases a with
  | zero => rw [hR.2.1] at hka; cases hka
  | succ a =>
    obtain ⟨g0, g1, g2⟩ := (hR.2.2.1 a (by rw [hka]; decide)).2.arr hka (by decide)
    refine W.bald (v := tV (aI (iv_ u (a + 1) i))) hx hb g2 ((hK.1.2 3 _ rfl).1 _ _) (fun q => by cases q) ?_ ?_ rfl rfl hd (kk H locs la hR hS hL)
    · rw [arrV_size]; exact ix_in h0 h1 g1
    · rw [ix_cl h0 h1 g1, arrV_read _ _ (lt_toNat h0 h1)]
      unfold av_
      rw [if_pos (by decide), Int.toNat_of_nonneg h0]
      rfl
theorem nar_char {x : Int} (h0 : 0 ≤ x) (h1 : x < 65536) : narrow .char (.int (Int32.ofInt x)) = .int (Int32.ofInt x) := by
  have := (pk_charN (q := x.toNat) (by omega)).1
  rwa [zx_nI, Int.toNat_of_nonneg h0] at this
theorem nar_bool {x : Int} (h : x = 0 ∨ x = 1) : narrow .boolean (.int (Int32.ofInt x)) = .int (Int32.ofInt x) := by rcases h with rfl | rfl <;> decide
theorem nar_byte {x : Int} (h0 : -128 ≤ x) (h1 : x < 128) : narrow .byte (.int (Int32.ofInt x)) = .int (Int32.ofInt x) := by
  have := pk_nb (Int32.ofInt x)
  rwa [zx_byte h0 h1] at this
theorem z_iast (ho : Ok_ X own cc ret d mc ms Q) {a : Nat} {i x : Int} (hd : decode cc pc = .ok (.iastore, 1)) (hka : kd_ u a = 100) (h0 : 0 ≤ i) (h1 : i < ln_ u a) (kk : Z X (pc + 1) ls st (wI_ u a i x) cu su) : Z X pc ls (aI x :: aI i :: aR a :: st) u cu su := by
  obtain ⟨p, l, e, R, s, m, args, below, meth, c, D, B, F⟩ := X
  obtain ⟨hx, hb, hret, hlk, hown, hts, hK, hB, hRm, hF⟩ := ho
  intro H locs la hR hS hL
  cases a with
  | zero => rw [hR.2.1] at hka; cases hka
  | succ a =>
    obtain ⟨hBa, hAt⟩ := hR.2.2.1 a (by rw [hka]; decide)
    obtain ⟨g0, g1, g2⟩ := hAt.arr hka (by decide)
    refine W.iast hx hb g2 ((hK.1.2 0 _ rfl).1 _ _) (fun q => by cases q) (by rw [arrV_size]; exact ix_in h0 h1 g1) rfl rfl hd (fun H' e1 e2 e3 => ?_)
    rw [ix_cl h0 h1 g1, arrV_store] at e1
    refine kk H' _ la (hR.upd (a := a) rfl (fun _ => rfl) (fun _ => rfl) (Wr_I u (a + 1) i x).2.2.2.1 (fun _ _ _ => rfl) e2 e3 (Or.inr ⟨by rw [kd_wI, hka]; decide, g0, g1, ?_⟩)) (hS.put e2 e3 hBa) hL
    rw [e1, kd_wI, ln_wI, hka]
    congr 2
    funext j
    unfold updV
    rw [av_I (by decide), av_I (by decide), iv_wI]
    by_cases e : j = i.toNat
    · have e' : (j : Int) = i := by omega
      rw [if_pos e, if_pos ⟨rfl, e'⟩]
    · have e' : ¬ (j : Int) = i := by omega
      rw [if_neg e, if_neg (fun h => e' h.2)]
theorem z_cast (ho : Ok_ X own cc ret d mc ms Q) {a : Nat} {i x : Int} (hd : decode cc pc = .ok (.castore, 1)) (hka : kd_ u a = 101) (h0 : 0 ≤ i) (h1 : i < ln_ u a) (hx0 : 0 ≤ x) (hx1 : x < 65536) (kk : Z X (pc + 1) ls st (wI_ u a i x) cu su) : Z X pc ls (aI x :: aI i :: aR a :: st) u cu su := by
  obtain ⟨p, l, e, R, s, m, args, below, meth, c, D, B, F⟩ := X
  obtain ⟨hx, hb, hret, hlk, hown, hts, hK, hB, hRm, hF⟩ := ho
  intro H locs la hR hS hL
  cases a with
  | zero => rw [hR.2.1] at hka; cases hka
  | succ a =>
    obtain ⟨hBa, hAt⟩ := hR.2.2.1 a (by rw [hka]; decide)
    obtain ⟨g0, g1, g2⟩ := hAt.arr hka (by decide)
    refine W.cast hx hb g2 ((hK.1.2 1 _ rfl).1 _ _) (fun q => by cases q) (by rw [arrV_size]; exact ix_in h0 h1 g1) rfl rfl hd (fun H' e1 e2 e3 => ?_)
    rw [ix_cl h0 h1 g1, arrV_store] at e1
    refine kk H' _ la (hR.upd (a := a) rfl (fun _ => rfl) (fun _ => rfl) (Wr_I u (a + 1) i x).2.2.2.1 (fun _ _ _ => rfl) e2 e3 (Or.inr ⟨by rw [kd_wI, hka]; decide, g0, g1, ?_⟩)) (hS.put e2 e3 hBa) hL
    rw [e1, kd_wI, ln_wI, hka]
    congr 2
    funext j
    unfold updV
    rw [av_I (by decide), av_I (by decide), iv_wI]
    by_cases e : j = i.toNat
    · have e' : (j : Int) = i := by omega
      rw [if_pos e, if_pos ⟨rfl, e'⟩, nar_char hx0 hx1]
    · have e' : ¬ (j : Int) = i := by omega
      rw [if_neg e, if_neg (fun h => e' h.2)]
theorem z_zast (ho : Ok_ X own cc ret d mc ms Q) {a : Nat} {i x : Int} (hd : decode cc pc = .ok (.bastore, 1)) (hka : kd_ u a = 102) (h0 : 0 ≤ i) (h1 : i < ln_ u a) (hx0 : x = 0 ∨ x = 1) (kk : Z X (pc + 1) ls st (wI_ u a i x) cu su) : Z X pc ls (aI x :: aI i :: aR a :: st) u cu su := by
  obtain ⟨p, l, e, R, s, m, args, below, meth, c, D, B, F⟩ := X
  obtain ⟨hx, hb, hret, hlk, hown, hts, hK, hB, hRm, hF⟩ := ho
  intro H locs la hR hS hL
  cases a with
  | zero => rw [hR.2.1] at hka; cases hka
  | succ a =>
    obtain ⟨hBa, hAt⟩ := hR.2.2.1 a (by rw [hka]; decide)
    obtain ⟨g0, g1, g2⟩ := hAt.arr hka (by decide)
    refine W.zast hx hb g2 ((hK.1.2 2 _ rfl).1 _ _) (fun q => by cases q) (by rw [arrV_size]; exact ix_in h0 h1 g1) rfl rfl hd (fun H' e1 e2 e3 => ?_)
    rw [ix_cl h0 h1 g1, arrV_store] at e1
    refine kk H' _ la (hR.upd (a := a) rfl (fun _ => rfl) (fun _ => rfl) (Wr_I u (a + 1) i x).2.2.2.1 (fun _ _ _ => rfl) e2 e3 (Or.inr ⟨by rw [kd_wI, hka]; decide, g0, g1, ?_⟩)) (hS.put e2 e3 hBa) hL
    rw [e1, kd_wI, ln_wI, hka]
    congr 2
    funext j
    unfold updV
    rw [av_I (by decide), av_I (by decide), iv_wI]
    by_cases e : j = i.toNat
    · have e' : (j : Int) = i := by omega
      rw [if_pos e, if_pos ⟨rfl, e'⟩, nar_bool hx0]
    · have e' : ¬ (j : Int) = i := by omega
      rw [if_neg e, if_neg (fun h => e' h.2)]
theorem z_bast (ho : Ok_ X own cc ret d mc ms Q) {a : Nat} {i x : Int} (hd : decode cc pc = .ok (.bastore, 1)) (hka : kd_ u a = 103) (h0 : 0 ≤ i) (h1 : i < ln_ u a) (hx0 : -128 ≤ x) (hx1 : x < 128) (kk : Z X (pc + 1) ls st (wI_ u a i x) cu su) : Z X pc ls (aI x :: aI i :: aR a :: st) u cu su := by
  obtain ⟨p, l, e, R, s, m, args, below, meth, c, D, B, F⟩ := X
  obtain ⟨hx, hb, hret, hlk, hown, hts, hK, hB, hRm, hF⟩ := ho
  intro H locs la hR hS hL
  cases a with
  | zero => rw [hR.2.1] at hka; cases hka
  | succ a =>
    obtain ⟨hBa, hAt⟩ := hR.2.2.1 a (by rw [hka]; decide)
    obtain ⟨g0, g1, g2⟩ := hAt.arr hka (by decide)
    refine W.bast hx hb g2 ((hK.1.2 3 _ rfl).1 _ _) (fun q => by cases q) (by rw [arrV_size]; exact ix_in h0 h1 g1) rfl rfl hd (fun H' e1 e2 e3 => ?_)
    rw [ix_cl h0 h1 g1, arrV_store] at e1
    refine kk H' _ la (hR.upd (a := a) rfl (fun _ => rfl) (fun _ => rfl) (Wr_I u (a + 1) i x).2.2.2.1 (fun _ _ _ => rfl) e2 e3 (Or.inr ⟨by rw [kd_wI, hka]; decide, g0, g1, ?_⟩)) (hS.put e2 e3 hBa) hL
    rw [e1, kd_wI, ln_wI, hka]
    congr 2
    funext j
    unfold updV
    rw [av_I (by decide), av_I (by decide), iv_wI]
    by_cases e : j = i.toNat
    · have e' : (j : Int) = i := by omega
      rw [if_pos e, if_pos ⟨rfl, e'⟩, nar_byte hx0 hx1]
    · have e' : ¬ (j : Int) = i := by omega
      rw [if_neg e, if_neg (fun h => e' h.2)]
theorem z_lald (ho : Ok_ X own cc ret d mc ms Q) {a : Nat} {i : Int} (hd : decode cc pc = .ok (.laload, 1)) (hka : kd_ u a = 104) (h0 : 0 ≤ i) (h1 : i < ln_ u a) (kk : Z X (pc + 1) ls (aL (Int64.ofInt (iv_ u a i)) :: st) u cu su) : Z X pc ls (aI i :: aR a :: st) u cu su := by
  obtain ⟨p, l, e, R, s, m, args, below, meth, c, D, B, F⟩ := X
  obtain ⟨hx, hb, hret, hlk, hown, hts, hK, hB, hRm, hF⟩ := ho
  intro H locs la hR hS hL
  cases a with
  | zero => rw [hR.2.1] at hka; cases hka
  | succ a =>
    obtain ⟨g0, g1, g2⟩ := (hR.2.2.1 a (by rw [hka]; decide)).2.arr hka (by decide)
    refine W.lald (v := .long (Int64.ofInt (iv_ u (a + 1) i))) hx hb g2 ((hK.1.2 4 _ rfl).1 _ _) (fun q => by cases q) ?_ ?_ rfl rfl hd (kk H locs la hR hS hL)
    · rw [arrV_size]; exact ix_in h0 h1 g1
    · rw [ix_cl h0 h1 g1, arrV_read _ _ (lt_toNat h0 h1), av_L, Int.toNat_of_nonneg h0]
theorem z_last (ho : Ok_ X own cc ret d mc ms Q) {a : Nat} {i x : Int} {w : Int64} (hd : decode cc pc = .ok (.lastore, 1)) (hw : w = Int64.ofInt x) (hka : kd_ u a = 104) (h0 : 0 ≤ i) (h1 : i < ln_ u a) (kk : Z X (pc + 1) ls st (wI_ u a i x) cu su) : Z X pc ls (aL w :: aI i :: aR a :: st) u cu su := by
  subst hw
  obtain ⟨p, l, e, R, s, m, args, below, meth, c, D, B, F⟩ := X
  obtain ⟨hx, hb, hret, hlk, hown, hts, hK, hB, hRm, hF⟩ := ho
  intro H locs la hR hS hL
  cases a with
  | zero => rw [hR.2.1] at hka; cases hka
  | succ a =>
    obtain ⟨hBa, hAt⟩ := hR.2.2.1 a (by rw [hka]; decide)
    obtain ⟨g0, g1, g2⟩ := hAt.arr hka (by decide)
    refine W.last hx hb g2 ((hK.1.2 4 _ rfl).1 _ _) (fun q => by cases q) (by rw [arrV_size]; exact ix_in h0 h1 g1) rfl rfl hd (fun H' e1 e2 e3 => ?_)
    rw [ix_cl h0 h1 g1, arrV_store] at e1
    refine kk H' _ la (hR.upd (a := a) rfl (fun _ => rfl) (fun _ => rfl) (Wr_I u (a + 1) i x).2.2.2.1 (fun _ _ _ => rfl) e2 e3 (Or.inr ⟨by rw [kd_wI, hka]; decide, g0, g1, ?_⟩)) (hS.put e2 e3 hBa) hL
    rw [e1, kd_wI, ln_wI, hka]
    congr 2
    funext j
    unfold updV
    rw [av_L, av_L, iv_wI]
    by_cases e : j = i.toNat
    · have e' : (j : Int) = i := by omega
      rw [if_pos e, if_pos ⟨rfl, e'⟩]
    · have e' : ¬ (j : Int) = i := by omega
      rw [if_neg e, if_neg (fun h => e' h.2)]
/-- arrays of references: the kinds of the array and of what it holds, the place in tys_ -/
def rA_ (K V t : Nat) : Prop := (K = 105 ∧ V = 6 ∧ t = 5) ∨ (K = 106 ∧ V = 11 ∧ t = 6) ∨ (K = 107 ∧ V = 18 ∧ t = 7)
theorem z_aald (ho : Ok_ X own cc ret d mc ms Q) {a K : Nat} {i : Int} (hd : decode cc pc = .ok (.aaload, 1)) (hKK : K = 105 ∨ K = 106 ∨ K = 107) (hka : kd_ u a = K) (h0 : 0 ≤ i) (h1 : i < ln_ u a) (kk : Z X (pc + 1) ls (aR (rv_ u a i) :: st) u cu su) : Z X pc ls (aI i :: aR a :: st) u cu su := by
  obtain ⟨p, l, e, R, s, m, args, below, meth, c, D, B, F⟩ := X
  obtain ⟨hx, hb, hret, hlk, hown, hts, hK, hB, hRm, hF⟩ := ho
  intro H locs la hR hS hL
  cases a with
  | zero => rw [hR.2.1] at hka; omega
  | succ a =>
    obtain ⟨g0, g1, g2⟩ := (hR.2.2.1 a (by omega)).2.arr hka (by omega)
    have harr : ∃ C : String, ArrOfT s (D.2.2 K) (.object C) := by
      rcases hKK with e | e | e <;> subst e
      · exact ⟨_, (hK.1.2 5 _ rfl).1⟩
      · exact ⟨_, (hK.1.2 6 _ rfl).1⟩
      · exact ⟨_, (hK.1.2 7 _ rfl).1⟩
    obtain ⟨C, harr⟩ := harr
    refine W.aald (v := rV (rv_ u (a + 1) i)) (ty := .object C) hx hb g2 (harr _ _) rfl (fun q => by cases q) ?_ ?_ rfl rfl hd (kk H locs la hR hS hL)
    · rw [arrV_size]; exact ix_in h0 h1 g1
    · rw [ix_cl h0 h1 g1, arrV_read _ _ (lt_toNat h0 h1), av_R (by omega), Int.toNat_of_nonneg h0]
theorem z_aast (ho : Ok_ X own cc ret d mc ms Q) {a v K V t : Nat} {i : Int} (hd : decode cc pc = .ok (.aastore, 1)) (hKK : rA_ K V t) (hka : kd_ u a = K) (h0 : 0 ≤ i) (h1 : i < ln_ u a) (hv : v = 0 ∨ kd_ u v = V) (kk : Z X (pc + 1) ls st (wR_ u a i v) cu su) : Z X pc ls (aR v :: aI i :: aR a :: st) u cu su := by
  obtain ⟨p, l, e, R, s, m, args, below, meth, c, D, B, F⟩ := X
  obtain ⟨hx, hb, hret, hlk, hown, hts, hK, hB, hRm, hF⟩ := ho
  intro H locs la hR hS hL
  have hKr : 105 ≤ K := by unfold rA_ at hKK; omega
  cases a with
  | zero => rw [hR.2.1] at hka; omega
  | succ a =>
    obtain ⟨hBa, hAt⟩ := hR.2.2.1 a (by omega)
    obtain ⟨g0, g1, g2⟩ := hAt.arr hka (by omega)
    have hV : ∃ r : vw_C, cls_[V]? = some r ∧ (tys_ D)[t]? = some (D.2.2 K, .object r.1) ∧ V ≠ 0 ∧ V < 100 := by
      rcases hKK with ⟨e1, e2, e3⟩ | ⟨e1, e2, e3⟩ | ⟨e1, e2, e3⟩ <;> subst e1 <;> subst e2 <;> subst e3 <;> exact ⟨_, rfl, rfl, by decide, by decide⟩
    obtain ⟨r, hr, ht, hV0, hV1⟩ := hV
    obtain ⟨hArr, kA, comp, k1, k2, k3, k4⟩ := hK.1.2 t _ ht
    have hcls := (hK.1.1 V r hr).2
    have fin : ∀ (H' : Heap) (locs' : List Loc), H'[a]? = some ((arrV (D.2.2 K) (ln_ u (a + 1)).toNat (av_ K u (a + 1))).setSlot (Int32.ofInt i).toNatClampNeg (rV v)) → H'.size = H.size → (∀ q, q ≠ a → H'[q]? = H[q]?) → locs' = locs ++ [⟨a, (Int32.ofInt i).toNatClampNeg⟩] → W p l e R s m args below meth c H' locs' cu su F (F0 m (pc + 1) la (st.map tV)) := by
      intro H' locs' e1 e2 e3 e4
      subst e4
      rw [ix_cl h0 h1 g1, arrV_store] at e1
      refine kk H' _ la (hR.upd (a := a) rfl (fun _ => rfl) (fun _ => rfl) (fun _ _ _ => rfl) (Wr_R u (a + 1) i v).2.2.2.2 e2 e3 (Or.inr ⟨by rw [kd_wR, hka]; omega, g0, g1, ?_⟩)) (hS.put e2 e3 hBa) hL
      rw [e1, kd_wR, ln_wR, hka]
      congr 2
      funext j
      unfold updV
      rw [av_R (by omega), av_R (by omega), rv_wR]
      by_cases e : j = i.toNat
      · have e' : (j : Int) = i := by omega
        rw [if_pos e, if_pos ⟨rfl, e'⟩]
      · have e' : ¬ (j : Int) = i := by omega
        rw [if_neg e, if_neg (fun h => e' h.2)]
    cases v with
    | zero => exact va_WaastN (C := r.1) hx hb g2 (hArr _ _) (fun h => by cases h) (by rw [arrV_size]; exact ix_in h0 h1 g1) rfl rfl hd (fun H' e1 e2 e3 => fin H' _ e1 e2 e3 rfl)
    | succ v =>
      have hkv : kd_ u (v + 1) = V := by rcases hv with h | h; (· omega); exact h
      obtain ⟨cv, c1, c2, c3, -⟩ := (hR.2.2.1 v (by omega)).2.obj hkv hV1
      have hcomp : comp = D.1 V := Option.some.inj (k3.symm.trans hcls.1)
      subst hcomp
      obtain ⟨kC, hkC, hkk⟩ := hcls.2
      refine W.aast hx hb g2 (fun q h => by cases h) (fun h => by cases h) k1 k2 rfl hkC ⟨?_, ?_⟩ c1 (fun q h => by rw [c3] at h; cases h) (by rw [c2]; exact hkC) (by rw [c2]; exact va_assign hcls) rfl rfl hd (fun H' e1 e2 e3 => fin H' _ e1 e2 e3 rfl)
      · have := ix_in h0 h1 g1
        exact fun q => this (Or.inl q)
      · rw [arrV_size, ix_cl h0 h1 g1]; exact lt_toNat h0 h1
theorem z_alen (ho : Ok_ X own cc ret d mc ms Q) {a K : Nat} (hd : decode cc pc = .ok (.arraylength, 1)) (hKK : 100 ≤ K ∧ K ≤ 107) (hka : kd_ u a = K) (kk : Z X (pc + 1) ls (aI (ln_ u a) :: st) u cu su) : Z X pc ls (aR a :: st) u cu su := by
  obtain ⟨p, l, e, R, s, m, args, below, meth, c, D, B, F⟩ := X
  obtain ⟨hx, hb, hret, hlk, hown, hts, hK, hB, hRm, hF⟩ := ho
  intro H locs la hR hS hL
  cases a with
  | zero => rw [hR.2.1] at hka; omega
  | succ a =>
    obtain ⟨g0, g1, g2⟩ := (hR.2.2.1 a (by omega)).2.arr hka (by omega)
    have harr : ∃ ty : FieldType, ArrOfT s (D.2.2 K) ty := by
      obtain ⟨h1, h2⟩ := hKK
      have : ∃ j, j < 8 ∧ K = 100 + j := ⟨K - 100, by omega, by omega⟩
      obtain ⟨j, hj, rfl⟩ := this
      match j, hj with
      | 0, _ => exact ⟨_, (hK.1.2 0 _ rfl).1⟩
      | 1, _ => exact ⟨_, (hK.1.2 1 _ rfl).1⟩
      | 2, _ => exact ⟨_, (hK.1.2 2 _ rfl).1⟩
      | 3, _ => exact ⟨_, (hK.1.2 3 _ rfl).1⟩
      | 4, _ => exact ⟨_, (hK.1.2 4 _ rfl).1⟩
      | 5, _ => exact ⟨_, (hK.1.2 5 _ rfl).1⟩
      | 6, _ => exact ⟨_, (hK.1.2 6 _ rfl).1⟩
      | 7, _ => exact ⟨_, (hK.1.2 7 _ rfl).1⟩
    obtain ⟨ty, harr⟩ := harr
    refine W.alen (n := Int32.ofInt (ln_ u (a + 1))) hx hb g2 (harr _ _) ?_ rfl rfl hd (kk H locs la hR hS hL)
    rw [arrV_size]
    show Int32.ofInt (((ln_ u (a + 1)).toNat : Nat) : Int) = _
    rw [Int.toNat_of_nonneg g0]
end MEM
