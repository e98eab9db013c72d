set_option maxRecDepth 100000
theorem del_app (b : Int) (A B : List (Int × Nat)) : del b (A ++ B) = del b A ++ del b B := List.filter_append A B
theorem del_one (b : Int) (x : Int × Nat) : del b [x] = if x.1 = b then [] else [x] := by
  unfold del
  by_cases h : x.1 = b
  · simp [h]
  · simp [h]
theorem del_le (b : Int) (A : List (Int × Nat)) : (del b A).length ≤ A.length := List.length_filter_le _ _
theorem c_F8_take (l : Launch) (u : Mem) {f : Nat} {b : Int} {xs : List (Int × Nat)} (hFn : Fn u f xs) (h0 : 0 ≤ b) (h1 : b < 256) (htk : Tk u xs) (hk8 : kd_ u f = 8) : Mt_ l yX8_take cX8_take 4 (some (.object "KeyHall$Fan")) 3 3 35 [aR f, aI b] u (qR fun r u' => PF u u' f r (del b xs)) := by
  obtain ⟨kf, ka, kb, la, lb, hs, hle, hsr, harr⟩ := F8.of_kd hFn hk8
  refine Mt_of (by decide) (Nat.le_of_ble_eq_true rfl) (fun X ho hX hN hI => ?_)
  subst hX
  show Z X 0 [some (aR f), some (aI b), none, none] [] u 0 0
  refine z_wf (fun hw => ?_)
  have hfl := Fn.lt hw hFn
  generalize hA : rv_ u f 1 = a1 at *
  generalize hB : rv_ u f 2 = a2 at *
  have d1 : a1 ≠ a2 := fun e => by rw [e] at ka; omega
  have d2 : f ≠ a1 := fun e => by rw [← e] at ka; omega
  have d3 : f ≠ a2 := fun e => by rw [← e] at kb; omega
  have l0 := hfl f (by unfold fpF; simp)
  have l1 := hfl a1 (by unfold fpF; simp [hA])
  have l2 := hfl a2 (by unfold fpF; simp [hB])
  have facts : ∀ v : Mem, Fr (fun a _ => a = a1 ∨ a = a2) u v → Sm u v f ∧ kd_ v a1 = 100 ∧ kd_ v a2 = 105 ∧ ln_ v a1 = ln_ u a1 ∧ ln_ v a2 = ln_ u a2 ∧ kd_ v f = 8 ∧ rv_ v f 1 = a1 ∧ rv_ v f 2 = a2 := by
    intro v hF
    have smf : Sm u v f := (hF.2 f l0).2.2 (by omega)
    have q1 := hF.2 a1 l1
    have q2 := hF.2 a2 l2
    exact ⟨smf, by rw [q1.1]; exact ka, by rw [q2.1]; exact kb, q1.2.1, q2.2.1, by rw [smf.1]; exact kf, by rw [smf.2.2.2]; exact hA, by rw [smf.2.2.2]; exact hB⟩
  have hxl : xs.length ≤ 16 := by omega
  -- behind the loop
  have fin : ∀ v : Mem, Arr v a1 a2 0 (del b xs) → Fr (fun a _ => a = a1 ∨ a = a2) u v → sz_ v = sz_ u → Z X 60 [some (aR f), some (aI b), some (aI ((del b xs).length : Int)), some (aI (xs.length : Int))] [] v 0 0 := by
    intro v hv hF hz
    obtain ⟨smf, ka', kb', la', lb', kf', r1, r2⟩ := facts v hF
    have hdl := del_le b xs
    refine z_aload_n ho dX8_take_60 rfl ?_
    refine z_iload_n ho dX8_take_61 rfl ?_
    refine pX8_21 ho dX8_take_62 kf'  ?_
    generalize hw' : wI_ v f 0 ((del b xs).length : Int) = w
    have q1 : rv_ w f 1 = a1 := by rw [← hw']; exact r1
    have q2 : rv_ w f 2 = a2 := by rw [← hw']; exact r2
    have kk : ∀ c, kd_ w c = kd_ v c := fun c => by rw [← hw']; rfl
    have ll : ∀ c, ln_ w c = ln_ v c := fun c => by rw [← hw']; rfl
    have i0 : iv_ w f 0 = ((del b xs).length : Int) := by rw [← hw', iv_wI, if_pos ⟨rfl, rfl⟩]
    have hF8 : F8 w f (del b xs) := ⟨by rw [kk]; exact kf', by rw [q1, kk]; exact ka', by rw [q2, kk]; exact kb', by rw [q1, ll, la']; exact la, by rw [q1, q2, ll, ll, la', lb']; exact lb, i0, by rw [q1, ll, la']; omega, hsr.del b, by rw [q1, q2, ← hw']; exact hv.wI (Or.inl d2)⟩
    have hfpw : fpF w f = fpF u f := by unfold fpF; rw [q1, q2, hA, hB]
    have hFw : Fr (fun a _ => a ∈ fpF u f) u w := by
      rw [← hw']
      exact (hF.mono (fun a _ q => by unfold fpF; rw [hA, hB]; rcases q with q | q <;> simp [q])).nI (Or.inr (by unfold fpF; simp))
    have hzw : sz_ w = sz_ u := by rw [← hw']; exact hz
    have kw : kd_ w f = 8 := hF8.1
    have same : Z X 82 [some (aR f), some (aI b), some (aI ((del b xs).length : Int)), some (aI (xs.length : Int))] [] w 0 0 := by
      refine z_aload_n ho dX8_take_82 rfl ?_
      refine r_R ho dX8_take_83 (Nat.le_of_ble_eq_true rfl) (Nat.le_of_ble_eq_true rfl) ?_
      exact ⟨Or.inl hF8, fun a ha => Or.inl (by rw [← hfpw]; exact ha), hFw⟩
    refine z_aload_n ho dX8_take_65 rfl ?_
    refine gX8_21 ho dX8_take_66 kw ?_
    refine z_iconst ho dX8_take_69 ?_
    refine z_icmp_gt (tgt := 82) ho dX8_take_70 (by decide) (by rw [i0]; unfold rng; omega) (by unfold rng; omega) (fun c70 => ?_) (fun c70 => ?_)
    · exact same
    · rw [i0] at c70
      refine z_aload_n ho dX8_take_73 rfl ?_
      refine gX8_9 ho dX8_take_74 kw ?_
      rw [q1]
      refine z_alen ho dX8_take_77 (by decide) (show kd_ w a1 = 100 by rw [kk]; exact ka') ?_
      refine z_iconst ho dX8_take_78 ?_
      refine z_icmp_ne (tgt := 84) ho dX8_take_79 (by decide) (by rw [ll, la']; unfold rng; omega) (by unfold rng; omega) (fun c79 => ?_) (fun c79 => ?_)
      · refine z_wf (fun hww => ?_)
        have hflw := Fn.lt hww (Or.inl hF8)
        refine nX8_10 ho dX8_take_84 (Nat.le_of_ble_eq_true rfl) (Nat.le_of_ble_eq_true rfl) ?_
        refine z_dup ho dX8_take_87 rfl ?_
        refine z_iconst ho dX8_take_88 ?_
        refine kX8_29 ho hN (c_F8_init _ _ (by rw [kd_al, if_pos rfl]) (Or.inl rfl) rfl (fun i => by rw [iv_al, if_pos rfl])) dX8_take_89 (by have := hww.2.2; omega) (Nat.le_of_ble_eq_true rfl) (Nat.le_of_ble_eq_true rfl) (Nat.le_of_ble_eq_true rfl) (Nat.le_of_ble_eq_true rfl) (fun u89 h89 => ?_)
        obtain ⟨i1, i2, i3, i4, i5, i6⟩ := h89
        have smN : ∀ a, a < sz_ w → Sm w u89 a := fun a ha => (Sm.al (by omega)).tr (i6 a ha)
        obtain ⟨hF2, hfp2⟩ := Fn.same (v := u89) (Or.inl hF8) (fun a ha => smN a (hflw a ha))
        have kf2 : kd_ u89 f = 8 := by rw [(smN f (by omega)).1]; exact kw
        have hF2 := F8.of_kd hF2 kf2
        have hfg : ∀ a ∈ fpF u89 (sz_ w), sz_ w ≤ a := fun a ha => by
          unfold fpF at ha
          rw [i2, i3] at ha
          simp at ha
          omega
        have htk2 : Tk u89 (del b xs) := fun x hx => by
          have := htk x (mem_del.mp hx).1
          have hl := (hw.1 x.2 (by omega)).1
          rw [(smN x.2 (by omega)).1, kk, (hF.2 x.2 hl).1]; exact this
        refine z_astore_n ho dX8_take_92 (Nat.le_of_ble_eq_true rfl) rfl ?_
        refine z_aload_n ho dX8_take_93 rfl ?_
        refine z_aload_n ho dX8_take_94 rfl ?_
        refine kX8_35 ho hN (c_all _ _ hF2 htk2 (Or.inl i1) (Or.inl ⟨i1.1, by rw [i2, i4]; omega⟩) (fun a ha q => by rw [hfp2] at ha; have := hflw a ha; have := hfg a q; omega)) dX8_take_95 kf2 (Nat.le_of_ble_eq_true rfl) (Nat.le_of_ble_eq_true rfl) (Nat.le_of_ble_eq_true rfl) (Nat.le_of_ble_eq_true rfl) (fun u95 h95 => ?_)
        obtain ⟨p1, p2, p3, p4⟩ := h95
        refine z_aload_n ho dX8_take_98 rfl ?_
        refine r_R ho dX8_take_99 (Nat.le_of_ble_eq_true rfl) (Nat.le_of_ble_eq_true rfl) ?_
        refine ⟨p1, fun a ha => Or.inr (by rw [p2] at ha; have := hfg a ha; omega), ?_⟩
        have smA : ∀ a, a < sz_ w → Sm w u95 a := fun a ha => (smN a ha).tr ((p3.2 a (by rw [i5, sz_al]; omega)).2.2 (fun q => by have := hfg a q; omega))
        refine hFw.tr ⟨by rw [p4, i5, sz_al]; omega, fun a ha => ?_⟩
        exact ⟨(smA a ha).1, (smA a ha).2.1, fun _ => smA a ha⟩
      · exact same
  refine z_iconst ho dX8_take_0 ?_
  refine z_istore_n ho dX8_take_1 (Nat.le_of_ble_eq_true rfl) rfl ?_
  refine z_iconst ho dX8_take_2 ?_
  refine z_istore_n ho dX8_take_3 (Nat.le_of_ble_eq_true rfl) rfl ?_
  have key : ∀ (R D : List (Int × Nat)) (v : Mem), xs = D ++ R → Arr v a1 a2 0 (del b D) → Arr v a1 a2 D.length R → Fr (fun a _ => a = a1 ∨ a = a2) u v → sz_ v = sz_ u → Z X 4 [some (aR f), some (aI b), some (aI ((del b D).length : Int)), some (aI (D.length : Int))] [] v 0 0 := by
    intro R
    induction R with
    | nil =>
      intro D v hx hv1 hv2 hF hz
      obtain ⟨smf, ka', kb', la', lb', kf', r1, r2⟩ := facts v hF
      have e : xs = D := by rw [hx]; simp
      have hz1 : iv_ v f 0 = xs.length := by rw [smf.2.2.1]; exact hs
      refine z_iload_n ho dX8_take_4 rfl ?_
      refine z_aload_n ho dX8_take_5 rfl ?_
      refine gX8_21 ho dX8_take_6 kf' ?_
      refine z_icmp_ge (tgt := 60) ho dX8_take_9 (by decide) (by rw [← e]; unfold rng; omega) (by rw [hz1]; unfold rng; omega) (fun c9 => ?_) (fun c9 => ?_)
      · rw [← e] at hv1 ⊢
        exact fin v hv1 hF hz
      · rw [hz1, e] at c9; omega
    | cons x R ih =>
      intro D v hx hv1 hv2 hF hz
      obtain ⟨smf, ka', kb', la', lb', kf', r1, r2⟩ := facts v hF
      have hlen : xs.length = D.length + R.length + 1 := by rw [hx]; simp; omega
      have hz1 : iv_ v f 0 = xs.length := by rw [smf.2.2.1]; exact hs
      have hdl := del_le b D
      obtain ⟨⟨x1, x2⟩, hv2'⟩ := Arr.cons.mp hv2
      have hxr := hsr.2 x (by rw [hx]; simp)
      have kx : kd_ v x.2 = 6 := by
        have := htk x (by rw [hx]; simp)
        rw [(hF.2 x.2 (hw.1 x.2 (by omega)).1).1]; exact this
      refine z_iload_n ho dX8_take_4 rfl ?_
      refine z_aload_n ho dX8_take_5 rfl ?_
      refine gX8_21 ho dX8_take_6 kf' ?_
      refine z_icmp_ge (tgt := 60) ho dX8_take_9 (by decide) (by unfold rng; omega) (by rw [hz1]; unfold rng; omega) (fun c9 => ?_) (fun c9 => ?_)
      · rw [hz1] at c9; omega
      · 
        refine z_aload_n ho dX8_take_12 rfl ?_
        refine gX8_9 ho dX8_take_13 kf' ?_
        rw [r1]
        refine z_iload_n ho dX8_take_16 rfl ?_
        refine z_aload_n ho dX8_take_17 rfl ?_
        refine gX8_9 ho dX8_take_18 kf' ?_
        rw [r1]
        refine z_iload_n ho dX8_take_21 rfl ?_
        refine z_iald ho dX8_take_22 ka' (by omega) (by rw [la']; omega) ?_
        rw [x1]
        refine z_iast ho dX8_take_23 ka' (by omega) (by rw [la']; omega) ?_
        refine z_aload_n ho dX8_take_24 rfl ?_
        refine gX8_17 ho dX8_take_25 kf' ?_
        rw [rv_wI, r2]
        refine z_iload_n ho dX8_take_28 rfl ?_
        refine z_aload_n ho dX8_take_29 rfl ?_
        refine gX8_17 ho dX8_take_30 kf' ?_
        rw [rv_wI, r2]
        refine z_iload_n ho dX8_take_33 rfl ?_
        refine z_aald ho dX8_take_34 (by decide) kb' (by omega) (by rw [ln_wI, lb', lb]; omega) ?_
        rw [rv_wI, x2]
        refine z_aast ho dX8_take_35 (Or.inl ⟨rfl, rfl, rfl⟩) kb' (by omega) (by rw [ln_wI, lb', lb]; omega) (Or.inr kx) ?_
        generalize hw' : wR_ (wI_ v a1 ((del b D).length : Int) x.1) a2 ((del b D).length : Int) x.2 = w
        have q1 : rv_ w f 1 = a1 := by rw [← hw', rv_wR, if_neg (by omega)]; exact r1
        have kw : kd_ w f = 8 := by rw [← hw']; exact kf'
        have kw1 : kd_ w a1 = 100 := by rw [← hw']; exact ka'
        have lw1 : ln_ w a1 = ln_ u a1 := by rw [← hw']; exact la'
        have xw : iv_ w a1 (D.length : Int) = x.1 := by
          rw [← hw', iv_wR, iv_wI]
          split
          · rfl
          · exact x1
        have hFw : Fr (fun a _ => a = a1 ∨ a = a2) u w := by rw [← hw']; exact (hF.nI (Or.inr (Or.inl rfl))).nR (Or.inr (Or.inr rfl))
        have hvw1 : Arr w a1 a2 0 (del b D) := by rw [← hw']; exact (hv1.wI (Or.inr (Or.inr (by omega)))).wR (Or.inr (Or.inr (by omega)))
        have hvw2 : Arr w a1 a2 (D.length + 1) R := by rw [← hw']; exact (hv2'.wI (Or.inr (Or.inl (by omega)))).wR (Or.inr (Or.inl (by omega)))
        have xw2 : iv_ w a1 ((del b D).length : Int) = x.1 ∧ rv_ w a2 ((del b D).length : Int) = x.2 := by rw [← hw', iv_wR, iv_wI, rv_wR, if_pos ⟨rfl, rfl⟩, if_pos ⟨rfl, rfl⟩]; exact ⟨rfl, rfl⟩
        have hzw : sz_ w = sz_ u := by rw [← hw']; exact hz
        have nxt : ∀ k : Int, k = ((del b (D ++ [x])).length : Int) - ((del b D).length : Int) → Arr w a1 a2 0 (del b (D ++ [x])) → Z X 52 [some (aR f), some (aI b), some (aI ((del b D).length : Int)), some (aI (D.length : Int))] [aI k, aI ((del b D).length : Int)] w 0 0 := by
          intro k hk hv
          refine z_iadd ho dX8_take_52 ?_
          refine z_istore_n ho dX8_take_53 (Nat.le_of_ble_eq_true rfl) rfl ?_
          refine z_iinc ho dX8_take_54 rfl rfl ?_
          refine z_goto (tgt := 4) ho dX8_take_57 (by decide) ?_
          have := ih (D ++ [x]) w (by rw [hx]; simp) hv (by rw [List.length_append]; exact hvw2) hFw hzw
          rw [List.length_append] at this
          have e : ((del b D).length : Int) + k = ((del b (D ++ [x])).length : Int) := by omega
          rw [e]
          exact this
        refine z_iload_n ho dX8_take_36 rfl ?_
        refine z_aload_n ho dX8_take_37 rfl ?_
        refine gX8_9 ho dX8_take_38 kw ?_
        rw [q1]
        refine z_iload_n ho dX8_take_41 rfl ?_
        refine z_iald ho dX8_take_42 kw1 (by omega) (by rw [lw1]; omega) ?_
        refine z_iload_n ho dX8_take_43 rfl ?_
        refine z_icmp_ne (tgt := 51) ho dX8_take_44 (by decide) (by rw [xw]; unfold rng; omega) (by unfold rng; omega) (fun c44 => ?_) (fun c44 => ?_)
        · 
          refine z_iconst ho dX8_take_51 ?_
          rw [xw] at c44
          have e : del b (D ++ [x]) = del b D ++ [x] := by rw [del_app, del_one, if_neg c44]
          refine nxt 1 (by rw [e]; simp; omega) ?_
          rw [e]
          exact Arr.app.mpr ⟨hvw1, Arr.cons.mpr ⟨by rw [Nat.zero_add]; exact xw2, Arr.nil _ _ _ _⟩⟩
        · 
          refine z_iconst ho dX8_take_47 ?_
          refine z_goto (tgt := 52) ho dX8_take_48 (by decide) ?_
          rw [xw] at c44
          have e : del b (D ++ [x]) = del b D := by rw [del_app, del_one, if_pos c44, List.append_nil]
          exact nxt 0 (by rw [e]; omega) (by rw [e]; exact hvw1)
  exact key xs [] u rfl (Arr.nil _ _ _ _) harr (Fr.rf _ u) rfl
theorem c_F16_take (l : Launch) (u : Mem) {f : Nat} {b : Int} {xs : List (Int × Nat)} (hFn : Fn u f xs) (h0 : 0 ≤ b) (h1 : b < 256) (htk : Tk u xs) (hin : ∃ x ∈ xs, x.1 = b) (hlim : xs.length ≤ 40) (hk16 : kd_ u f = 16) : Mt_ l yX16_take cX16_take 4 (some (.object "KeyHall$Fan")) 3 3 35 [aR f, aI b] u (qR fun r u' => PF u u' f r (del b xs)) := by
  obtain ⟨kf, ka, la, kb, lb, hs, hsr, hpl⟩ := F16.of_kd hFn hk16
  refine Mt_of (by decide) (Nat.le_of_ble_eq_true rfl) (fun X ho hX hN hI => ?_)
  subst hX
  show Z X 0 [some (aR f), some (aI b), none, none] [] u 0 0
  refine z_wf (fun hw => ?_)
  have hfl := Fn.lt hw hFn
  generalize hA : rv_ u f 1 = a1 at *
  generalize hB : rv_ u f 2 = a2 at *
  have d1 : a1 ≠ a2 := fun e => by rw [e] at ka; omega
  have d2 : f ≠ a1 := fun e => by rw [← e] at ka; omega
  have d3 : f ≠ a2 := fun e => by rw [← e] at kb; omega
  obtain ⟨xb, hxb, hxbe⟩ := hin
  have hpb : 1 ≤ iv_ u a1 b ∧ iv_ u a1 b ≤ 48 := by
    rcases hpl.1 b h0 h1 with ⟨-, q⟩ | ⟨q1, q2, -⟩
    · exact absurd hxbe (q xb hxb)
    · exact ⟨q1, q2⟩
  have hdl : (del b xs).length + 1 = xs.length := by
    obtain ⟨A, B, hAB⟩ := List.append_of_mem hxb
    obtain ⟨q1, q2⟩ := hsr.before hAB
    rw [hAB, del_app, show xb :: B = [xb] ++ B from rfl, del_app, del_one, if_pos hxbe]
    have e1 : del b A = A := List.filter_eq_self.mpr (fun y hy => by have := q1 y hy; simp; omega)
    have e2 : del b B = B := List.filter_eq_self.mpr (fun y hy => by have := q2 y hy; simp; omega)
    rw [e1, e2]
    simp
    omega
  refine z_aload_n ho dX16_take_0 rfl ?_
  refine kX16_21 ho hN (c_isWide _ _ kf (by rw [hB]; exact kb) (by rw [hB]; exact lb)) dX16_take_1 kf (Nat.le_of_ble_eq_true rfl) (Nat.le_of_ble_eq_true rfl) (Nat.le_of_ble_eq_true rfl) (Nat.le_of_ble_eq_true rfl) (fun x1 u1 h1 => ?_)
  obtain ⟨rfl, rfl⟩ := h1
  refine z_if_eq (tgt := 17) ho dX16_take_4 (by decide) (by unfold rng; omega) (fun c4 => ?_) (fun c4 => ?_)
  · 
    refine z_aload_n ho dX16_take_17 rfl ?_
    refine gX16_17 ho dX16_take_18 kf ?_
    rw [hB]
    refine z_aload_n ho dX16_take_21 rfl ?_
    refine gX16_11 ho dX16_take_22 kf ?_
    rw [hA]
    refine z_iload_n ho dX16_take_25 rfl ?_
    refine z_bald ho dX16_take_26 ka h0 (by rw [la]; omega) ?_
    refine z_iconst ho dX16_take_27 ?_
    refine z_isub ho dX16_take_28 ?_
    refine z_null ho dX16_take_29 ?_
    refine z_aast ho dX16_take_30 (Or.inl ⟨rfl, rfl, rfl⟩) kb (by omega) (by rw [lb]; omega) (Or.inl rfl) ?_
    refine z_aload_n ho dX16_take_31 rfl ?_
    refine gX16_11 ho dX16_take_32 (show kd_ _ f = 16 by rw [kd_wR]; exact kf) ?_
    rw [rv_wR, if_neg (by omega), hA]
    refine z_iload_n ho dX16_take_35 rfl ?_
    refine z_iconst ho dX16_take_36 ?_
    refine z_bast ho dX16_take_37 (show kd_ _ a1 = 103 by rw [kd_wR]; exact ka) h0 (by rw [ln_wR, la]; omega) (by omega) (by omega) ?_
    refine z_aload_n ho dX16_take_38 rfl ?_
    refine z_dup ho dX16_take_39 rfl ?_
    refine gX16_25 ho dX16_take_40 (show kd_ _ f = 16 by rw [kd_wI, kd_wR]; exact kf) ?_
    refine z_iconst ho dX16_take_43 ?_
    refine z_isub ho dX16_take_44 ?_
    refine pX16_25 ho dX16_take_45 (show kd_ _ f = 16 by rw [kd_wI, kd_wR]; exact kf)  ?_
    rw [iv_wI, if_neg (by omega), iv_wR, hs]
    generalize hw' : wI_ (wI_ (wR_ u a2 (iv_ u a1 b - 1) 0) a1 b 0) f 0 ((xs.length : Int) - 1) = w
    have kk : ∀ c, kd_ w c = kd_ u c := fun c => by rw [← hw']; rfl
    have ll : ∀ c, ln_ w c = ln_ u c := fun c => by rw [← hw']; rfl
    have q1 : rv_ w f 1 = a1 := by rw [← hw', rv_wI, rv_wI, rv_wR, if_neg (by omega)]; exact hA
    have q2 : rv_ w f 2 = a2 := by rw [← hw', rv_wI, rv_wI, rv_wR, if_neg (by omega)]; exact hB
    have i0 : iv_ w f 0 = ((del b xs).length : Int) := by rw [← hw', iv_wI, if_pos ⟨rfl, rfl⟩]; omega
    have hFw : F16 w f (del b xs) := by
      refine ⟨by rw [kk]; exact kf, by rw [q1, kk]; exact ka, by rw [q1, ll]; exact la, by rw [q2, kk]; exact kb, by rw [q2, ll]; exact lb, i0, hsr.del b, ?_⟩
      rw [q1, q2]
      refine hpl.del hsr (fun j => ?_) (fun j => ?_) ⟨xb, hxb, hxbe⟩
      · rw [← hw', iv_wI, if_neg (by omega), iv_wI]
        by_cases e : j = b
        · rw [if_pos ⟨rfl, e⟩, if_pos e]
        · rw [if_neg (fun q => e q.2), if_neg e, iv_wR]
      · rw [← hw', rv_wI, rv_wI, rv_wR]
        by_cases e : j = iv_ u a1 b - 1
        · rw [if_pos ⟨rfl, e⟩, if_pos e]
        · rw [if_neg (fun q => e q.2), if_neg e]
    have hFrw : Fr (fun a _ => a ∈ fpF u f) u w := by
      rw [← hw']
      exact (((Fr.rf _ u).nR (Or.inr (by unfold fpF; simp [hB]))).nI (Or.inr (by unfold fpF; simp [hA]))).nI (Or.inr (by unfold fpF; simp))
    have hfpw : fpF w f = fpF u f := by unfold fpF; rw [q1, q2, hA, hB]
    have hzw : sz_ w = sz_ u := by rw [← hw']; rfl
    have kw := hFw.1
    refine z_aload_n ho dX16_take_48 rfl ?_
    refine kX16_21 ho hN (c_isWide _ _ kw (by rw [q2, kk]; exact kb) (by rw [q2, ll]; exact lb)) dX16_take_49 kw (Nat.le_of_ble_eq_true rfl) (Nat.le_of_ble_eq_true rfl) (Nat.le_of_ble_eq_true rfl) (Nat.le_of_ble_eq_true rfl) (fun x49 u49 h49 => ?_)
    obtain ⟨rfl, rfl⟩ := h49
    refine z_if_eq (tgt := 68) ho dX16_take_52 (by decide) (by unfold rng; omega) (fun c52 => ?_) (fun c52 => ?_)
    · 
      refine z_aload_n ho dX16_take_68 rfl ?_
      refine gX16_25 ho dX16_take_69 kw ?_
      refine z_bipush ho dX16_take_72 rfl ?_
      refine z_icmp_le (tgt := 79) ho dX16_take_74 (by decide) (by rw [i0]; unfold rng; omega) (by unfold rng; omega) (fun c74 => ?_) (fun c74 => ?_)
      · rw [i0] at c74
        refine z_wf (fun hww => ?_)
        have hflw := Fn.lt hww (Or.inr hFw)
        refine nX16_39 ho dX16_take_79 (Nat.le_of_ble_eq_true rfl) (Nat.le_of_ble_eq_true rfl) ?_
        refine z_dup ho dX16_take_82 rfl ?_
        refine z_bipush ho dX16_take_83 rfl ?_
        refine kX16_41 ho hN (c_F8_init _ _ (by rw [kd_al, if_pos rfl]) (Or.inr rfl) rfl (fun i => by rw [iv_al, if_pos rfl])) dX16_take_85 (by have := hww.2.2; omega) (Nat.le_of_ble_eq_true rfl) (Nat.le_of_ble_eq_true rfl) (Nat.le_of_ble_eq_true rfl) (Nat.le_of_ble_eq_true rfl) (fun u85 h85 => ?_)
        obtain ⟨i1, i2, i3, i4, i5, i6⟩ := h85
        have smN : ∀ a, a < sz_ w → Sm w u85 a := fun a ha => (Sm.al (by omega)).tr (i6 a ha)
        have hfg : ∀ a ∈ fpF u85 (sz_ w), sz_ w ≤ a := fun a ha => by
          unfold fpF at ha
          rw [i2, i3] at ha
          simp at ha
          omega
        -- a memory in which the new fan has some
        have st : ∀ v : Mem, Fr (fun a _ => a ∈ fpF u85 (sz_ w)) u85 v → F16 v f (del b xs) ∧ kd_ v f = 16 ∧ Tk v (del b xs) ∧ ∀ a, a < sz_ w → Sm w v a := by
          intro v hv
          have smA : ∀ a, a < sz_ w → Sm w v a := fun a ha => (smN a ha).tr ((hv.2 a (by rw [i5, sz_al]; omega)).2.2 (fun q => by have := hfg a q; omega))
          have kv : kd_ v f = 16 := by rw [(smA f (hflw f (by unfold fpF; simp))).1]; exact kw
          refine ⟨F16.of_kd (Fn.same (v := v) (Or.inr hFw) (fun a ha => smA a (hflw a ha))).1 kv, kv, fun x hx => ?_, smA⟩
          have := htk x (mem_del.mp hx).1
          have hl := (hw.1 x.2 (by omega)).1
          rw [(smA x.2 (by omega)).1, kk]; exact this
        have key : ∀ (R D : List (Int × Nat)) (v : Mem) (k : Int), del b xs = D ++ R → F8 v (sz_ w) D → rv_ v (sz_ w) 1 = sz_ w + 1 → rv_ v (sz_ w) 2 = sz_ w + 2 → Fr (fun a _ => a ∈ fpF u85 (sz_ w)) u85 v → sz_ v = sz_ u85 → (R = [] ∧ k = -1 ∨ ∃ x R', R = x :: R' ∧ k = x.1) → Z X 95 [some (aR f), some (aI b), some (aR (sz_ w)), some (aI k)] [] v 3 35 := by
          intro R
          induction R with
          | nil =>
            intro D v k hx hD r1 r2 hv hz hk
            have hk : k = -1 := by
              rcases hk with ⟨-, h⟩ | ⟨x, R', h, -⟩
              · exact h
              · simp at h
            refine z_iload_n ho dX16_take_95 rfl ?_
            refine z_iconst ho dX16_take_96 ?_
            refine z_icmp_eq (tgt := 122) ho dX16_take_97 (by decide) (by unfold rng; omega) (by unfold rng; omega) (fun c97 => ?_) (fun c97 => ?_)
            · 
              refine z_aload_n ho dX16_take_122 rfl ?_
              refine r_R ho dX16_take_123 (Nat.le_of_ble_eq_true rfl) (Nat.le_of_ble_eq_true rfl) ?_
              obtain ⟨-, -, -, smA⟩ := st v hv
              refine ⟨Or.inl (by rw [hx]; simpa using hD), fun a ha => Or.inr ?_, hFrw.tr ⟨by rw [hz, i5, sz_al]; omega, fun a ha => ⟨(smA a ha).1, (smA a ha).2.1, fun _ => smA a ha⟩⟩⟩
              unfold fpF at ha
              rw [r1, r2] at ha
              simp at ha
              omega
            · exact absurd hk c97
          | cons x R ih =>
            intro D v k hx hD r1 r2 hv hz hk
            have hk : k = x.1 := by
              rcases hk with ⟨h, -⟩ | ⟨y, R', h, h'⟩
              · simp at h
              · cases h; exact h'
            obtain ⟨hF16, kv, htv, smA⟩ := st v hv
            have hsd := hsr.del b
            have hxr := hsd.2 x (by rw [hx]; simp)
            obtain ⟨bef, aft⟩ := hsd.before hx
            have hlk : lk k (del b xs) = x.2 := lk_of hsd (by rw [hk, hx]; simp)
            have hkx : kd_ v x.2 = 6 := htv x (by rw [hx]; simp)
            have hlen : (del b xs).length = D.length + R.length + 1 := by rw [hx]; simp; omega
            have hroom : (D.length : Int) < ln_ v (rv_ v (sz_ w) 1) := by
              rw [r1, (hv.2 (sz_ w + 1) (by rw [i5, sz_al]; omega)).2.1, i4]; omega
            refine z_iload_n ho dX16_take_95 rfl ?_
            refine z_iconst ho dX16_take_96 ?_
            refine z_icmp_eq (tgt := 122) ho dX16_take_97 (by decide) (by unfold rng; omega) (by unfold rng; omega) (fun c97 => ?_) (fun c97 => ?_)
            · omega
            · 
              refine z_aload_n ho dX16_take_100 rfl ?_
              refine z_iload_n ho dX16_take_101 rfl ?_
              refine z_aload_n ho dX16_take_102 rfl ?_
              refine z_iload_n ho dX16_take_103 rfl ?_
              refine kX16_32 ho hN (c_F16_get _ _ hF16 (by omega) (by omega)) dX16_take_104 kv (Nat.le_of_ble_eq_true rfl) (Nat.le_of_ble_eq_true rfl) (Nat.le_of_ble_eq_true rfl) (Nat.le_of_ble_eq_true rfl) (fun x104 u104 h104 => ?_)
              obtain ⟨rfl, rfl⟩ := h104
              rw [hlk, hk]
              refine kX16_48_8 ho hN (c_F8_put_room _ _ hD (fun y hy => by have := bef y hy; omega) hxr.1 hxr.2.1 hkx (fun y hy => htv y (by rw [hx]; simp [hy])) hroom) dX16_take_107 hD.1 (Nat.le_of_ble_eq_true rfl) (Nat.le_of_ble_eq_true rfl) (Nat.le_of_ble_eq_true rfl) (Nat.le_of_ble_eq_true rfl) (fun x107 u107 h107 => ?_)
              obtain ⟨-, p1, p2, p3, p4, p5⟩ := h107
              have hfpv : fpF v (sz_ w) = fpF u85 (sz_ w) := by unfold fpF; rw [r1, r2, i2, i3]
              have hv' : Fr (fun a _ => a ∈ fpF u85 (sz_ w)) u85 u107 := hv.tr (p4.mono (fun a _ q => by rw [← hfpv]; exact q))
              obtain ⟨hF16', kv', -, -⟩ := st u107 hv'
              refine z_pop ho dX16_take_110 rfl ?_
              refine z_aload_n ho dX16_take_111 rfl ?_
              refine z_iload_n ho dX16_take_112 rfl ?_
              refine z_iconst ho dX16_take_113 ?_
              refine z_iadd ho dX16_take_114 ?_
              refine kX16_44 ho hN (c_F16_from _ _ hF16' (by omega) (by omega)) dX16_take_115 kv' (Nat.le_of_ble_eq_true rfl) (Nat.le_of_ble_eq_true rfl) (Nat.le_of_ble_eq_true rfl) (Nat.le_of_ble_eq_true rfl) (fun x115 u115 h115 => ?_)
              obtain ⟨rfl, hfr⟩ := h115
              refine z_istore_n ho dX16_take_118 (Nat.le_of_ble_eq_true rfl) rfl ?_
              refine z_goto (tgt := 95) ho dX16_take_119 (by decide) ?_
              have hin : ins x.1 x.2 D = D ++ [x] := by
                have := ins_split (b := x.1) (t := x.2) (A := D) (B := []) bef (fun y h => by simp at h)
                rw [List.append_nil] at this
                exact this
              rw [hin] at p1
              refine ih (D ++ [x]) u107 x115 (by rw [hx]; simp) p1 (by rw [p2]; exact r1) (by rw [p3]; exact r2) hv' (by omega) ?_
              rcases hfr with ⟨g1, g2⟩ | ⟨A, y, C, g1, g2, g3, g4⟩
              · refine Or.inl ⟨List.eq_nil_iff_forall_not_mem.mpr (fun y hy => ?_), g1⟩
                have := g2 y (by rw [hx]; simp [hy])
                have := aft y hy
                omega
              · refine Or.inr ?_
                cases R with
                | nil =>
                  have hy : y ∈ D ++ [x] := by rw [← hx, g1]; simp
                  rcases List.mem_append.mp hy with q | q
                  · have := bef y q; omega
                  · rw [List.mem_singleton.mp q] at g3; omega
                | cons z R =>
                  refine ⟨z, R, rfl, ?_⟩
                  have hz' := aft z (by simp)
                  have hyz : y.1 ≤ z.1 := by
                    have hzm : z ∈ A ++ y :: C := by rw [← g1, hx]; simp
                    rcases List.mem_append.mp hzm with q | q
                    · have := g4 z q; omega
                    · rcases List.mem_cons.mp q with q | q
                      · rw [q]; exact Int.le_refl _
                      · have := (hsd.before g1).2 z q; omega
                  have hzy : z.1 ≤ y.1 := by
                    have hym : y ∈ D ++ x :: z :: R := by rw [← hx, g1]; simp
                    rcases List.mem_append.mp hym with q | q
                    · have := bef y q; omega
                    · rcases List.mem_cons.mp q with q | q
                      · rw [q] at g3; omega
                      · rcases List.mem_cons.mp q with q | q
                        · rw [q]; exact Int.le_refl _
                        · have hpw := (List.pairwise_append.mp (by have := hsd.1; rw [hx] at this; exact this)).2.1
                          have := (List.pairwise_cons.mp (List.pairwise_cons.mp hpw).2).1 y q
                          omega
                  omega
        obtain ⟨hF16', kv', -, -⟩ := st u85 (Fr.rf _ _)
        refine z_astore_n ho dX16_take_88 (Nat.le_of_ble_eq_true rfl) rfl ?_
        refine z_aload_n ho dX16_take_89 rfl ?_
        refine z_iconst ho dX16_take_90 ?_
        refine kX16_44 ho hN (c_F16_from _ _ hF16' (by omega) (by omega)) dX16_take_91 kv' (Nat.le_of_ble_eq_true rfl) (Nat.le_of_ble_eq_true rfl) (Nat.le_of_ble_eq_true rfl) (Nat.le_of_ble_eq_true rfl) (fun x91 u91 h91 => ?_)
        obtain ⟨rfl, hfr⟩ := h91
        refine z_istore_n ho dX16_take_94 (Nat.le_of_ble_eq_true rfl) rfl ?_
        refine key (del b xs) [] u85 x91 rfl i1 i2 i3 (Fr.rf _ _) rfl ?_
        rcases hfr with ⟨g1, g2⟩ | ⟨A, y, C, g1, g2, g3, g4⟩
        · refine Or.inl ⟨List.eq_nil_iff_forall_not_mem.mpr (fun y hy => ?_), g1⟩
          have := g2 y hy
          have := ((hsr.del b).2 y hy).1
          omega
        · refine Or.inr ⟨y, C, ?_, g2⟩
          have hA0 : A = [] := List.eq_nil_iff_forall_not_mem.mpr (fun z hz => by
            have := g4 z hz
            have := ((hsr.del b).2 z (by rw [g1]; simp [hz])).1
            omega)
          rw [g1, hA0]; rfl
      · 
        refine z_aload_n ho dX16_take_77 rfl ?_
        refine r_R ho dX16_take_78 (Nat.le_of_ble_eq_true rfl) (Nat.le_of_ble_eq_true rfl) ?_
        exact ⟨Or.inr hFw, fun a ha => Or.inl (by rw [← hfpw]; exact ha), hFrw⟩
    · exact absurd rfl c52
  · exact absurd rfl c4
