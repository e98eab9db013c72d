set_option maxRecDepth 100000
/-! ===== Automaton.least ===== -/
def Lw (v v' : Mem) (au a3 a8 : Nat) : Prop := sz_ v' = sz_ v ∧ (∀ a, kd_ v' a = kd_ v a ∧ ln_ v' a = ln_ v a) ∧ (∀ a i, rv_ v' a i = rv_ v a i) ∧ (∀ a, a ≠ au → a ≠ a3 → a ≠ a8 → ∀ i, iv_ v' a i = iv_ v a i) ∧ (∀ i, i ≠ 9 → iv_ v' au i = iv_ v au i)
theorem Lw.rf (v : Mem) (au a3 a8 : Nat) : Lw v v au a3 a8 := ⟨rfl, fun _ => ⟨rfl, rfl⟩, fun _ _ => rfl, fun _ _ _ _ _ => rfl, fun _ _ => rfl⟩
theorem Lw.tr {u v w : Mem} {au a3 a8 : Nat} (h : Lw u v au a3 a8) (h' : Lw v w au a3 a8) : Lw u w au a3 a8 := ⟨h'.1.trans h.1, fun a => ⟨(h'.2.1 a).1.trans (h.2.1 a).1, (h'.2.1 a).2.trans (h.2.1 a).2⟩, fun a i => (h'.2.2.1 a i).trans (h.2.2.1 a i), fun a h1 h2 h3 i => (h'.2.2.2.1 a h1 h2 h3 i).trans (h.2.2.2.1 a h1 h2 h3 i), fun i hi => (h'.2.2.2.2 i hi).trans (h.2.2.2.2 i hi)⟩
theorem Lw.w3 {v : Mem} {au a3 a8 : Nat} {i x : Int} (hn : au ≠ a3) : Lw v (wI_ v a3 i x) au a3 a8 := ⟨rfl, fun _ => ⟨rfl, rfl⟩, fun _ _ => rfl, fun a _ h _ j => by rw [iv_wI, if_neg (fun z => h z.1)], fun j _ => by rw [iv_wI, if_neg (fun z => hn z.1)]⟩
theorem Lw.w8 {v : Mem} {au a3 a8 : Nat} {i x : Int} (hn : au ≠ a8) : Lw v (wI_ v a8 i x) au a3 a8 := ⟨rfl, fun _ => ⟨rfl, rfl⟩, fun _ _ => rfl, fun a _ _ h j => by rw [iv_wI, if_neg (fun z => h z.1)], fun j _ => by rw [iv_wI, if_neg (fun z => hn z.1)]⟩
theorem Lw.w9 {v : Mem} {au a3 a8 : Nat} {x : Int} : Lw v (wI_ v au 9 x) au a3 a8 := ⟨rfl, fun _ => ⟨rfl, rfl⟩, fun _ _ => rfl, fun a h _ _ j => by rw [iv_wI, if_neg (fun z => h z.1)], fun j hj => by rw [iv_wI, if_neg (fun z => hj z.2)]⟩
theorem AX.lw {v v' : Mem} {au a0 a1 a2 a3 a4 a8 : Nat} (h : AX v au a0 a1 a2 a3 a4 a8) (hL : Lw v v' au a3 a8) : AX v' au a0 a1 a2 a3 a4 a8 := by
  unfold AX at h ⊢
  simp only [(hL.2.1 _).1, (hL.2.1 _).2, hL.2.2.1]
  exact h
theorem Lw.fr {v v' : Mem} {au a0 a1 a2 a3 a4 a8 : Nat} (hL : Lw v v' au a3 a8) : Fr (aQ au a0 a1 a2 a3 a4 a8) v v' := ⟨by rw [hL.1]; exact Nat.le_refl _, fun a _ => ⟨(hL.2.1 a).1, (hL.2.1 a).2, fun q => ⟨(hL.2.1 a).1, (hL.2.1 a).2, fun i => hL.2.2.2.1 a (fun z => q (Or.inl z)) (fun z => q (by unfold aQ; simp [z])) (fun z => q (by unfold aQ; simp [z])) i, fun i => hL.2.2.1 a i⟩⟩⟩
/-- the automaton while states are made one -/
def LSt (v : Mem) (au a0 a1 a2 a3 a4 a8 : Nat) (n : Nat) (pf : Nat → List Int) (St : Nat → List Nat) (Ks : List (List Int)) (KL : List Nat) : Prop :=
  TI (iv_ v a1) (iv_ v a4) (iv_ v a2) n pf St ∧ Nds n pf Ks ∧ (∀ s : Nat, s < n → (iv_ v a0 (s : Int) = 1 ∧ pf s ∈ Ks) ∨ (iv_ v a0 (s : Int) = 0 ∧ pf s ∉ Ks)) ∧ (∀ t : Nat, t + 1 < n → 0 ≤ iv_ v a2 (t : Int) ∧ iv_ v a2 (t : Int) < 65536) ∧ (n ≤ 513 ∧ iv_ v au 9 = KL.length ∧ KL.Nodup ∧ ∀ (j : Nat) x, KL[j]? = some x → iv_ v a8 (j : Int) = (x : Int)) ∧ KI (iv_ v a3) n pf St Ks KL
theorem TI.par {fs nx lt : Int → Int} {n : Nat} {pf : Nat → List Int} {St : Nat → List Nat} (h : TI fs nx lt n pf St) {s s' t : Nat} (hs : s < n) (hs' : s' < n) (h1 : t ∈ St s) (h2 : t ∈ St s') : s = s' := by
  have e1 := (h.2.2.2.1 s hs t h1).2
  have e2 := (h.2.2.2.1 s' hs' t h2).2
  rw [e1] at e2
  exact h.2.2.2.2.2.1 s s' hs hs' (List.append_inj' e2 rfl).1
theorem Nds.len {n : Nat} {pf : Nat → List Int} {Ks : List (List Int)} (h : Nds n pf Ks) (hK : ∀ k ∈ Ks, k.length ≤ 8) {s : Nat} (hs : s < n) : (pf s).length ≤ 8 := by
  obtain ⟨k, h1, h2⟩ := (h (pf s)).mp ⟨s, hs, rfl⟩
  have := hK k h1
  have := h2.length_le
  omega
/-- kids of one state go to different parts -/
theorem TI.apart {fs nx lt : Int → Int} {n : Nat} {pf : Nat → List Int} {St : Nat → List Nat} (h : TI fs nx lt n pf St) {s t t' : Nat} {p : List Int} (hs : s < n) (h1 : t ∈ St s) (h2 : t' ∈ St s) (p1 : pf (t + 1) <+: p) (p2 : pf (t' + 1) <+: p) : t = t' := by
  obtain ⟨n1, e1⟩ := h.2.2.2.1 s hs t h1
  obtain ⟨n2, e2⟩ := h.2.2.2.1 s hs t' h2
  have hl : (pf (t + 1)).length = (pf (t' + 1)).length := by rw [e1, e2]; simp
  have := List.prefix_of_prefix_length_le p1 p2 (by omega)
  have e := this.eq_of_length hl
  have := h.2.2.2.2.2.1 (t + 1) (t' + 1) n1 n2 e
  omega
theorem c_least (l : Launch) {au a0 a1 a2 a3 a4 a8 n : Nat} {pf : Nat → List Int} {St : Nat → List Nat} {Ks : List (List Int)} (hK8 : ∀ k ∈ Ks, k.length ≤ 8) : ∀ (m : Nat) (u : Mem) (s : Nat) (KL : List Nat), (pf s).length + m = 9 → AX u au a0 a1 a2 a3 a4 a8 → LSt u au a0 a1 a2 a3 a4 a8 n pf St Ks KL → s < n → (∀ t : Nat, t + 1 < n → pf s <+: pf (t + 1) → t + 1 ≠ s → iv_ u a3 (t : Int) = (t : Int) + 1) → (∀ x ∈ KL, ¬ pf s <+: pf x) →
    Mt_ l yX9_least cX9_least 3 (some .int) (m + 1) 0 0 [aR au, aI (s : Int)] u (qI fun r v => Lw u v au a3 a8 ∧ ∃ (KL' : List Nat) (r' : Nat), r = (r' : Int) ∧ LSt v au a0 a1 a2 a3 a4 a8 n pf St Ks KL' ∧ KL <+: KL' ∧ r' ∈ KL' ∧ res Ks (pf r') = res Ks (pf s) ∧ (∀ x ∈ KL', x ∈ KL ∨ pf s <+: pf x) ∧ (∀ x, x < n → pf s <+: pf x → ∃ y ∈ KL', res Ks (pf y) = res Ks (pf x)) ∧ (∀ t : Nat, (t + 1 < n → pf s <+: pf (t + 1) → t + 1 = s) → iv_ v a3 (t : Int) = iv_ u a3 (t : Int))) := by
  intro m
  induction m with
  | zero =>
    intro u s KL hm hX hLS hs _ _
    have := hLS.2.1.len hK8 hs
    omega
  | succ m ih =>
    intro u s KL hm hX hLS hs hun hKLs
    obtain ⟨n1, n2, n3⟩ := hX.ne
    have hXu := hX
    obtain ⟨⟨ka, r0, r1, r2, r3, r4, r8⟩, ⟨k0, l0⟩, ⟨k1, l1⟩, ⟨k2, l2⟩, ⟨k3, l3⟩, ⟨k4, l4⟩, ⟨k8, l8⟩, d13, d14, d18, d34, d38, d48⟩ := hX
    obtain ⟨hTI, hNd, hfl, hlt, ⟨hn5, hc9, hnd, hkp⟩, hKI⟩ := hLS
    have hst := hTI.2.2.2.1 s hs
    refine Mt_of (by decide) (Nat.le_of_ble_eq_true rfl) (fun X ho hX hN hI => ?_)
    subst hX
    show Z X 0 [some (aR au), some (aI  (s:Int)), none] [] u 0 0
    refine z_wf (fun hw => ?_)
    -- the steps are done
    have fin : ∀ (v : Mem) (KLc : List Nat), AX v au a0 a1 a2 a3 a4 a8 → Lw u v au a3 a8 → LSt v au a0 a1 a2 a3 a4 a8 n pf St Ks KLc → KL <+: KLc → (∀ t ∈ St s, ∃ r ∈ KLc, iv_ v a3 (t : Int) = (r : Int) ∧ res Ks (pf r) = res Ks (pf (t + 1))) → (∀ x ∈ KLc, x ∈ KL ∨ ∃ t ∈ St s, pf (t + 1) <+: pf x) → (∀ t ∈ St s, ∀ x, x < n → pf (t + 1) <+: pf x → ∃ y ∈ KLc, res Ks (pf y) = res Ks (pf x)) → (∀ t : Nat, (t + 1 < n → pf s <+: pf (t + 1) → t + 1 = s) → iv_ v a3 (t : Int) = iv_ u a3 (t : Int)) → ∀ tm : Int, Z X 38 [some (aR au), some (aI (s : Int)), some (aI tm)] [] v 0 0 := by
      intro v KLc hXv hLw hLSv hpre hdone hin hcov hout tm
      have hXv' := hXv
      obtain ⟨⟨ka', r0', r1', r2', r3', r4', r8'⟩, ⟨k0', l0'⟩, ⟨k1', l1'⟩, ⟨k2', l2'⟩, ⟨k3', l3'⟩, ⟨k4', l4'⟩, ⟨k8', l8'⟩, -⟩ := hXv
      have hLSv' := hLSv
      obtain ⟨hTIv, hNv, hflv, hltv, ⟨hn5v, hc9v, hndv, hkpv⟩, hKIv⟩ := hLSv
      have hskl : s ∉ KLc := fun z => by
        rcases hin s z with q | ⟨t, q1, q2⟩
        · exact hKLs s q (List.prefix_refl _)
        · have := q2.length_le
          rw [(hst t q1).2] at this
          simp at this
          omega
      have hcl : KLc.length < 513 := by
        have := nd_sub (s :: KLc) (List.range n) (List.nodup_cons.mpr ⟨hskl, hndv⟩) (fun x hx => by
          rcases List.mem_cons.mp hx with q | q
          · rw [q]; exact List.mem_range.mpr hs
          · exact List.mem_range.mpr (hKIv.1 x q).1)
        simp at this
        omega
      -- all of the part of s have a state
      have cov : ∀ KLz : List Nat, (∀ x ∈ KLc, x ∈ KLz) → (∃ y ∈ KLz, res Ks (pf y) = res Ks (pf s)) → ∀ x, x < n → pf s <+: pf x → ∃ y ∈ KLz, res Ks (pf y) = res Ks (pf x) := fun KLz hsub hsy x hx hp => by
        obtain ⟨w, hw⟩ := hp
        cases w with
        | nil =>
          rw [List.append_nil] at hw
          rw [← hw]; exact hsy
        | cons c w =>
          obtain ⟨k, q1, q2⟩ := (hNd (pf x)).mp ⟨x, hx, rfl⟩
          obtain ⟨y, y1, y2⟩ := (hNd (pf s ++ [c])).mpr ⟨k, q1, List.IsPrefix.trans ⟨w, by rw [← hw]; simp⟩ q2⟩
          obtain ⟨t, t1, -, rfl⟩ := hTI.node hs y1 y2
          obtain ⟨z, z1, z2⟩ := hcov t t1 x hx ⟨w, by rw [y2, ← hw]; simp⟩
          exact ⟨z, hsub z z1, z2⟩
      have loop : ∀ (j k : Nat), j + k = KLc.length → (∀ i : Nat, i < k → ∀ x, KLc[i]? = some x → res Ks (pf x) ≠ res Ks (pf s)) → Z X 40 [some (aR au), some (aI (s : Int)), some (aI (k : Int))] [] v 0 0 := by
        intro j
        induction j with
        | zero =>
          intro k hjk hno
          have hk : k = KLc.length := by omega
          refine z_iload_n ho dX9_least_40 rfl ?_
          refine z_aload_n ho dX9_least_41 rfl ?_
          refine gX9_39 ho dX9_least_42 ka' ?_
          refine z_icmp_ge (tgt := 75) ho dX9_least_45 (by decide) (by unfold rng; omega) (by rw [hc9v]; unfold rng; omega) (fun c45 => ?_) (fun c45 => ?_)
          · 
            refine z_aload_n ho dX9_least_75 rfl ?_
            refine gX9_29 ho dX9_least_76 ka' ?_
            rw [r8']
            refine z_aload_n ho dX9_least_79 rfl ?_
            refine gX9_39 ho dX9_least_80 ka' ?_
            rw [hc9v]
            refine z_iload_n ho dX9_least_83 rfl ?_
            refine z_iast ho dX9_least_84 k8' (by omega) (by omega) ?_
            refine z_aload_n ho dX9_least_85 rfl ?_
            refine z_dup ho dX9_least_86 rfl ?_
            refine gX9_39 ho dX9_least_87 ka' ?_
            refine z_iconst ho dX9_least_90 ?_
            refine z_iadd ho dX9_least_91 ?_
            refine pX9_39 ho dX9_least_92 ka'  ?_
            have e9 : iv_ (wI_ v a8 (KLc.length : Int) (s : Int)) au 9 = KLc.length := by rw [iv_wI, if_neg (fun z => n1.2.2.2.2.2 z.1)]; exact hc9v
            rw [e9]
            refine z_iload_n ho dX9_least_95 rfl ?_
            refine r_I ho dX9_least_96 (Nat.le_of_ble_eq_true rfl) (Nat.le_of_ble_eq_true rfl) ?_
            generalize hv2 : wI_ (wI_ v a8 (KLc.length : Int) (s : Int)) au 9 ((KLc.length : Int) + 1) = v2
            have hL2 : Lw v v2 au a3 a8 := by rw [← hv2]; exact (Lw.w8 n1.2.2.2.2.2).tr Lw.w9
            have ei : ∀ b, b ≠ au → b ≠ a8 → iv_ v2 b = iv_ v b := fun b h1 h2 => by
              funext i
              rw [← hv2, iv_wI, if_neg (fun z => h1 z.1), iv_wI, if_neg (fun z => h2 z.1)]
            have hKIs : KI (iv_ v2 a3) n pf St Ks (KLc ++ [s]) := by
              rw [ei a3 (Ne.symm n1.2.2.2.1) d38]
              refine ⟨fun x hx => ?_, fun a ha b hb hab => ?_⟩
              · rcases List.mem_append.mp hx with q | q
                · obtain ⟨z1, z2⟩ := hKIv.1 x q
                  exact ⟨z1, fun t ht => by obtain ⟨r, y1, y2⟩ := z2 t ht; exact ⟨r, by simp [y1], y2⟩⟩
                · rw [List.mem_singleton.mp q]
                  exact ⟨hs, fun t ht => by obtain ⟨r, y1, y2⟩ := hdone t ht; exact ⟨r, by simp [y1], y2⟩⟩
              · have ne : ∀ x ∈ KLc, res Ks (pf x) ≠ res Ks (pf s) := fun x hx => by
                  obtain ⟨i, hi, hix⟩ := List.mem_iff_getElem.mp hx
                  exact hno i (by omega) x (by rw [List.getElem?_eq_getElem hi, hix])
                rcases List.mem_append.mp ha with q | q
                · rcases List.mem_append.mp hb with z | z
                  · exact hKIv.2 a q b z hab
                  · rw [List.mem_singleton.mp z] at hab; exact absurd hab (ne a q)
                · rw [List.mem_singleton.mp q] at hab ⊢
                  rcases List.mem_append.mp hb with z | z
                  · exact absurd hab.symm (ne b z)
                  · rw [List.mem_singleton.mp z]
            have hLS2 : LSt v2 au a0 a1 a2 a3 a4 a8 n pf St Ks (KLc ++ [s]) := by
              refine ⟨?_, hNv, ?_, ?_, ⟨hn5v, ?_, ?_, ?_⟩, hKIs⟩
              · rw [ei a1 (Ne.symm n1.2.1) d18, ei a4 (Ne.symm n1.2.2.2.2.1) d48, ei a2 (Ne.symm n1.2.2.1) n3.2.2.2]; exact hTIv
              · rw [ei a0 (Ne.symm n1.1) n2.2.2.2.2]; exact hflv
              · rw [ei a2 (Ne.symm n1.2.2.1) n3.2.2.2]; exact hltv
              · rw [← hv2, iv_wI, if_pos ⟨rfl, rfl⟩]; simp
              · refine List.nodup_append.mpr ⟨hndv, by simp, fun a ha b hb z => ?_⟩
                rw [List.mem_singleton.mp hb] at z
                exact hskl (z ▸ ha)
              · intro i x hix
                rw [← hv2, iv_wI, if_neg (fun z => n1.2.2.2.2.2 z.1.symm), iv_wI]
                by_cases z : i < KLc.length
                · rw [List.getElem?_append_left z] at hix
                  rw [if_neg (by omega)]
                  exact hkpv i x hix
                · rw [List.getElem?_append_right (by omega)] at hix
                  have hi : i - KLc.length = 0 := by
                    by_cases y : i - KLc.length = 0
                    · exact y
                    · rw [List.getElem?_eq_none (by simp; omega)] at hix; cases hix
                  rw [hi] at hix
                  simp at hix
                  rw [if_pos ⟨rfl, by omega⟩, hix]
            refine ⟨hLw.tr hL2, KLc ++ [s], s, rfl, hLS2, hpre.trans (List.prefix_append _ _), by simp, rfl, fun x hx => ?_, cov _ (fun x hx => by simp [hx]) ⟨s, by simp, rfl⟩, fun t ht => by rw [ei a3 (Ne.symm n1.2.2.2.1) d38]; exact hout t ht⟩
            rcases List.mem_append.mp hx with q | q
            · rcases hin x q with z | ⟨t, t1, t2⟩
              · exact Or.inl z
              · exact Or.inr (List.IsPrefix.trans ⟨_, (hst t t1).2.symm⟩ t2)
            · rw [List.mem_singleton.mp q]; exact Or.inr (List.prefix_refl _)
          · omega
        | succ j ihj =>
          intro k hjk hno
          have hkl : k < KLc.length := by omega
          have hkx : KLc[k]? = some KLc[k] := List.getElem?_eq_getElem hkl
          generalize hxx : KLc[k] = x at hkx
          have hxm : x ∈ KLc := List.mem_of_getElem? hkx
          have hxn := hKIv.1 x hxm
          have e8 := hkpv k x hkx
          have rn : ∀ {y : Nat}, y < n → (∀ t ∈ St y, ∃ r ∈ KLc, iv_ v a3 (t : Int) = (r : Int) ∧ res Ks (pf r) = res Ks (pf (t + 1))) → ∀ t ∈ St y, t < 513 ∧ (0 ≤ iv_ v a2 (t : Int) ∧ iv_ v a2 (t : Int) < 65536) ∧ rng (iv_ v a3 (t : Int)) := fun {y} hy hd t ht => by
            have g1 := (hTIv.2.2.2.1 y hy t ht).1
            obtain ⟨r, q1, q2, -⟩ := hd t ht
            have := (hKIv.1 r q1).1
            exact ⟨by omega, hltv t g1, by unfold rng; omega⟩
          have fl : ∀ y : Nat, y < n → iv_ v a0 (y : Int) = 0 ∨ iv_ v a0 (y : Int) = 1 := fun y hy => by
            rcases hflv y hy with q | q
            · exact Or.inr q.1
            · exact Or.inl q.1
          refine z_iload_n ho dX9_least_40 rfl ?_
          refine z_aload_n ho dX9_least_41 rfl ?_
          refine gX9_39 ho dX9_least_42 ka' ?_
          refine z_icmp_ge (tgt := 75) ho dX9_least_45 (by decide) (by unfold rng; omega) (by rw [hc9v]; unfold rng; omega) (fun c45 => ?_) (fun c45 => ?_)
          · omega
          · 
            refine z_aload_n ho dX9_least_48 rfl ?_
            refine z_aload_n ho dX9_least_49 rfl ?_
            refine gX9_29 ho dX9_least_50 ka' ?_
            rw [r8']
            refine z_iload_n ho dX9_least_53 rfl ?_
            refine z_iald ho dX9_least_54 k8' (by omega) (by omega) ?_
            rw [e8]
            refine z_iload_n ho dX9_least_55 rfl ?_
            refine kX9_65 ho hN (c_isLike _ _ (La := St x) (Lb := St s) hXv' (by omega) (by omega) (by omega) (by omega) (hTIv.2.2.1 x hxn.1) (hTIv.2.2.1 s hs) (fun t ht => (List.mem_append.mp ht).elim (rn hxn.1 hxn.2 t) (rn hs hdone t)) (fl x hxn.1) (fl s hs)) dX9_least_56 ka' (by omega) (Nat.le_of_ble_eq_true rfl) (Nat.le_of_ble_eq_true rfl) (Nat.le_of_ble_eq_true rfl) (fun x56 u56 h56 => ?_)
            obtain ⟨rfl, hq⟩ := h56
            refine z_if_eq (tgt := 69) ho dX9_least_59 (by decide) (by rcases hq with ⟨z, -⟩ | ⟨z, -⟩ <;> rw [z] <;> unfold rng <;> omega) (fun c59 => ?_) (fun c59 => ?_)
            · have hq := hq
              have hne : res Ks (pf x) ≠ res Ks (pf s) := by
                rcases hq with ⟨z, -⟩ | ⟨-, z⟩
                · rw [z] at c59; exact absurd c59 (by decide)
                · exact fun y => z ((like_iff hTIv hNv hflv hKIv hxm hs hdone).mpr y)
              refine z_iinc ho dX9_least_69 rfl rfl ?_
              refine z_goto (tgt := 40) ho dX9_least_72 (by decide) ?_
              have := ihj (k + 1) (by omega) (fun i hi y hy => by
                by_cases z : i = k
                · rw [z, hkx] at hy; cases hy; exact hne
                · exact hno i (by omega) y hy)
              exact this
            · have hlike : res Ks (pf x) = res Ks (pf s) := by
                rcases hq with ⟨-, z⟩ | ⟨z, -⟩
                · exact (like_iff hTIv hNv hflv hKIv hxm hs hdone).mp z
                · exact absurd z c59
              refine z_aload_n ho dX9_least_62 rfl ?_
              refine gX9_29 ho dX9_least_63 ka' ?_
              rw [r8']
              refine z_iload_n ho dX9_least_66 rfl ?_
              refine z_iald ho dX9_least_67 k8' (by omega) (by omega) ?_
              rw [e8]
              refine r_I ho dX9_least_68 (Nat.le_of_ble_eq_true rfl) (Nat.le_of_ble_eq_true rfl) ?_
              refine ⟨hLw, KLc, x, rfl, hLSv', hpre, hxm, hlike, fun y hy => ?_, cov KLc (fun y hy => hy) ⟨x, hxm, hlike⟩, hout⟩
              rcases hin y hy with z | ⟨t, t1, t2⟩
              · exact Or.inl z
              · exact Or.inr (List.IsPrefix.trans ⟨_, (hst t t1).2.symm⟩ t2)
      refine z_iconst ho dX9_least_38 ?_
      refine z_istore_n ho dX9_least_39 (Nat.le_of_ble_eq_true rfl) rfl ?_
      exact loop KLc.length 0 (by omega) (fun i hi => by omega)
    have loop : ∀ (M pre : List Nat) (x : Int) (v : Mem) (KLc : List Nat), St s = pre ++ M → Ch (iv_ u a4) x M → AX v au a0 a1 a2 a3 a4 a8 → Lw u v au a3 a8 → LSt v au a0 a1 a2 a3 a4 a8 n pf St Ks KLc → KL <+: KLc → (∀ t ∈ pre, ∃ r ∈ KLc, iv_ v a3 (t : Int) = (r : Int) ∧ res Ks (pf r) = res Ks (pf (t + 1))) → (∀ x ∈ KLc, x ∈ KL ∨ ∃ t ∈ pre, pf (t + 1) <+: pf x) → (∀ t ∈ pre, ∀ x, x < n → pf (t + 1) <+: pf x → ∃ y ∈ KLc, res Ks (pf y) = res Ks (pf x)) → (∀ t : Nat, (t + 1 < n → pf s <+: pf (t + 1) → t + 1 = s) → iv_ v a3 (t : Int) = iv_ u a3 (t : Int)) → (∀ t ∈ M, ∀ t' : Nat, t' + 1 < n → pf (t + 1) <+: pf (t' + 1) → iv_ v a3 (t' : Int) = (t' : Int) + 1) → Z X 7 [some (aR au), some (aI (s : Int)), some (aI x)] [] v 0 0 := by
      intro M
      induction M with
      | nil =>
        intro pre x v KLc h1 h2 hXv hLw hLSv hpre hdone hin hcov hout hrem
        have hx : x = -1 := h2
        subst hx
        rw [List.append_nil] at h1
        rw [← h1] at hdone hin hcov
        refine z_iload_n ho dX9_least_7 rfl ?_
        refine z_iconst ho dX9_least_8 ?_
        refine z_icmp_eq (tgt := 38) ho dX9_least_9 (by decide) (by unfold rng; omega) (by unfold rng; omega) (fun c9 => ?_) (fun c9 => ?_)
        · exact fin v KLc hXv hLw hLSv hpre hdone hin hcov hout _
        · exact absurd rfl c9
      | cons t M ihM =>
        intro pre x v KLc h1 h2 hXv hLw hLSv hpre hdone hin hcov hout hrem
        obtain ⟨hx, h2⟩ := h2
        subst hx
        have htm : t ∈ St s := by rw [h1]; simp
        obtain ⟨g1, g2⟩ := hst t htm
        have hXv' := hXv
        obtain ⟨⟨ka', r0', r1', r2', r3', r4', r8'⟩, ⟨k0', l0'⟩, ⟨k1', l1'⟩, ⟨k2', l2'⟩, ⟨k3', l3'⟩, ⟨k4', l4'⟩, ⟨k8', l8'⟩, -⟩ := hXv
        have hn5v := hLSv.2.2.2.2.1.1
        have e3 : iv_ v a3 (t : Int) = ((t + 1 : Nat) : Int) := by rw [hrem t (by simp) t g1 (List.prefix_refl _)]; omega
        have hps : pf s <+: pf (t + 1) := ⟨_, g2.symm⟩
        have hnk : ∀ y ∈ KLc, ¬ pf (t + 1) <+: pf y := fun y hy z => by
          rcases hin y hy with q | ⟨t0, q1, q2⟩
          · exact hKLs y q (hps.trans z)
          · have e := hTI.apart hs htm (by rw [h1]; simp [q1]) z q2
            have hndp : (St s).Nodup := (hTI.2.2.2.2.2.2 s hs).imp (fun {a b} hab e => by rw [e] at hab; omega)
            rw [h1] at hndp
            exact (List.nodup_append.mp hndp).2.2 t0 q1 t (by simp) e.symm
        refine z_iload_n ho dX9_least_7 rfl ?_
        refine z_iconst ho dX9_least_8 ?_
        refine z_icmp_eq (tgt := 38) ho dX9_least_9 (by decide) (by unfold rng; omega) (by unfold rng; omega) (fun c9 => ?_) (fun c9 => ?_)
        · omega
        · 
          refine z_aload_n ho dX9_least_12 rfl ?_
          refine gX9_23 ho dX9_least_13 ka' ?_
          rw [r3']
          refine z_iload_n ho dX9_least_16 rfl ?_
          refine z_aload_n ho dX9_least_17 rfl ?_
          refine z_aload_n ho dX9_least_18 rfl ?_
          refine gX9_23 ho dX9_least_19 ka' ?_
          rw [r3']
          refine z_iload_n ho dX9_least_22 rfl ?_
          refine z_iald ho dX9_least_23 k3' (by omega) (by omega) ?_
          rw [e3]
          refine kX9_61 ho hN (ih v (t + 1) KLc (by rw [g2, List.length_append, List.length_singleton]; omega) hXv' hLSv g1 (fun t' q1 q2 _ => hrem t (by simp) t' q1 q2) hnk) dX9_least_24 (by omega) (Nat.le_of_ble_eq_true rfl) (Nat.le_of_ble_eq_true rfl) (Nat.le_of_ble_eq_true rfl) (fun x24 u24 h24 => ?_)
          obtain ⟨w1, KL2, r, hr, w2, w3, w4, w5, w6, w7, w8⟩ := h24
          rw [hr]
          refine z_iast ho dX9_least_27 (by rw [(w1.2.1 _).1]; exact k3') (by omega) (by rw [(w1.2.1 _).2]; omega) ?_
          have hX2 := hXv'.lw w1
          have hrn := (w2.2.2.2.2.2.1 r w4).1
          generalize hv2 : wI_ u24 a3 (t : Int) (r : Int) = v2
          have hL2 : Lw u24 v2 au a3 a8 := by rw [← hv2]; exact Lw.w3 n1.2.2.2.1
          have hX3 := hX2.lw hL2
          have ei : ∀ b, b ≠ a3 → iv_ v2 b = iv_ u24 b := fun b h1 => by
            funext i
            rw [← hv2, iv_wI, if_neg (fun z => h1 z.1)]
          have e3' : ∀ j : Nat, iv_ v2 a3 (j : Int) = if j = t then (r : Int) else iv_ u24 a3 (j : Int) := fun j => by
            rw [← hv2, iv_wI]
            by_cases z : j = t
            · rw [if_pos ⟨rfl, by rw [z]⟩, if_pos z]
            · rw [if_neg (fun y => z (by omega)), if_neg z]
          have hsk2 : s ∉ KL2 := fun z => by
            rcases w6 s z with q | q
            · rcases hin s q with y | ⟨t0, y1, y2⟩
              · exact hKLs s y (List.prefix_refl _)
              · have := y2.length_le
                rw [(hst t0 (by rw [h1]; simp [y1])).2] at this
                simp at this
                omega
            · have := q.length_le
              rw [g2] at this
              simp at this
              omega
          have hKI2 : KI (iv_ v2 a3) n pf St Ks KL2 := by
            obtain ⟨q1, q2⟩ := w2.2.2.2.2.2
            refine ⟨fun y hy => ⟨(q1 y hy).1, fun t' ht' => ?_⟩, q2⟩
            have hne : t' ≠ t := fun z => hsk2 (by rw [hTI.par hs (q1 y hy).1 htm (z ▸ ht')]; exact hy)
            rw [e3', if_neg hne]
            exact (q1 y hy).2 t' ht'
          have hLS2 : LSt v2 au a0 a1 a2 a3 a4 a8 n pf St Ks KL2 := by
            obtain ⟨q1, q2, q3, q4, ⟨q5, q6, q7, q8⟩, -⟩ := w2
            exact ⟨by rw [ei a1 d13, ei a4 (Ne.symm d34), ei a2 n3.2.1]; exact q1, q2, by rw [ei a0 n2.2.2.1]; exact q3, by rw [ei a2 n3.2.1]; exact q4, ⟨q5, by rw [ei au n1.2.2.2.1]; exact q6, q7, by rw [ei a8 (Ne.symm d38)]; exact q8⟩, hKI2⟩
          have nx2 : iv_ v2 a4 (t : Int) = iv_ u a4 (t : Int) := by
            rw [ei a4 (Ne.symm d34), w1.2.2.2.1 a4 (Ne.symm n1.2.2.2.2.1) (Ne.symm d34) d48, hLw.2.2.2.1 a4 (Ne.symm n1.2.2.2.2.1) (Ne.symm d34) d48]
          -- steps of other parts stay
          have hkeep : ∀ t' : Nat, t' ≠ t → (t' + 1 < n → ¬ pf (t + 1) <+: pf (t' + 1)) → iv_ v2 a3 (t' : Int) = iv_ v a3 (t' : Int) := fun t' hne hnp => by
            rw [e3', if_neg hne]
            exact w8 t' (fun z1 z2 => absurd z2 (hnp z1))
          clear hv2
          refine z_aload_n ho dX9_least_28 rfl ?_
          refine gX9_26 ho dX9_least_29 hX3.1.1 ?_
          rw [hX3.1.2.2.2.2.2.1]
          refine z_iload_n ho dX9_least_32 rfl ?_
          refine z_iald ho dX9_least_33 hX3.2.2.2.2.2.1.1 (by omega) (by rw [hX3.2.2.2.2.2.1.2]; omega) ?_
          rw [nx2]
          refine z_istore_n ho dX9_least_34 (Nat.le_of_ble_eq_true rfl) rfl ?_
          refine z_goto (tgt := 7) ho dX9_least_35 (by decide) ?_
          refine ihM (pre ++ [t]) _ v2 KL2 (by rw [h1]; simp) h2 hX3 ((hLw.tr w1).tr hL2) hLS2 (hpre.trans w3) (fun t0 ht0 => ?_) (fun y hy => ?_) (fun t0 ht0 y hy hp => ?_) (fun t0 ht0 => ?_) (fun t0 ht0 t1 ht1 hp => ?_)
          · rcases List.mem_append.mp ht0 with q | q
            · obtain ⟨r0, y1, y2, y3⟩ := hdone t0 q
              have hm0 : t0 ∈ St s := by rw [h1]; simp [q]
              have hndp : (St s).Nodup := (hTI.2.2.2.2.2.2 s hs).imp (fun {a b} hab e => by rw [e] at hab; omega)
              rw [h1] at hndp
              have hne : t0 ≠ t := (List.nodup_append.mp hndp).2.2 t0 q t (by simp)
              refine ⟨r0, w3.subset y1, ?_, y3⟩
              rw [hkeep t0 hne (fun _ z => hne (hTI.apart hs hm0 htm (List.prefix_refl _) z))]
              exact y2
            · rw [List.mem_singleton.mp q]
              exact ⟨r, w4, by rw [e3', if_pos rfl], w5⟩
          · rcases w6 y hy with q | q
            · rcases hin y q with z | ⟨t0, z1, z2⟩
              · exact Or.inl z
              · exact Or.inr ⟨t0, by simp [z1], z2⟩
            · exact Or.inr ⟨t, by simp, q⟩
          · rcases List.mem_append.mp ht0 with q | q
            · obtain ⟨z, z1, z2⟩ := hcov t0 q y hy hp
              exact ⟨z, w3.subset z1, z2⟩
            · rw [List.mem_singleton.mp q] at hp
              exact w7 y hy hp
          · have hne : t0 ≠ t := fun z => by
              rw [z] at ht0
              have := ht0 g1 hps
              rw [← this] at g2
              have := congrArg List.length g2
              simp at this
            rw [hkeep t0 hne (fun z1 z2 => by
              have := ht0 z1 (hps.trans z2)
              rw [this] at z2
              have := z2.length_le
              rw [g2] at this
              simp at this
              omega)]
            exact hout t0 ht0
          · have hm0 : t0 ∈ St s := by rw [h1]; simp [ht0]
            have hndp : (St s).Nodup := (hTI.2.2.2.2.2.2 s hs).imp (fun {a b} hab e => by rw [e] at hab; omega)
            rw [h1] at hndp
            have hne0 : t0 ≠ t := fun z => (List.nodup_cons.mp (List.nodup_append.mp hndp).2.1).1 (z ▸ ht0)
            have hne : t1 ≠ t := fun z => hne0 (hTI.apart hs hm0 htm (z ▸ hp) (List.prefix_refl _))
            rw [hkeep t1 hne (fun _ z => hne0 (hTI.apart hs hm0 htm hp z))]
            exact hrem t0 (by simp [ht0]) t1 ht1 hp
    refine z_aload_n ho dX9_least_0 rfl ?_
    refine gX9_15 ho dX9_least_1 ka ?_
    rw [r1]
    refine z_iload_n ho dX9_least_4 rfl ?_
    refine z_iald ho dX9_least_5 k1 (by omega) (by omega) ?_
    refine z_istore_n ho dX9_least_6 (Nat.le_of_ble_eq_true rfl) rfl ?_
    refine loop (St s) [] _ u KL rfl (hTI.2.2.1 s hs) hXu (Lw.rf u au a3 a8) ⟨hTI, hNd, hfl, hlt, ⟨hn5, hc9, hnd, hkp⟩, hKI⟩ (List.prefix_refl _) (fun t ht => by simp at ht) (fun x hx => Or.inl hx) (fun t ht => by simp at ht) (fun _ _ => rfl) (fun t ht t' h1 h2 => ?_)
    have g2 := (hst t ht).2
    refine hun t' h1 (List.IsPrefix.trans ⟨_, g2.symm⟩ h2) (fun z => ?_)
    rw [z] at h2
    have := h2.length_le
    rw [g2] at this
    simp at this
    omega
