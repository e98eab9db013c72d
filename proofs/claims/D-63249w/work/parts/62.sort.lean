set_option maxRecDepth 100000
/-! ===== Scroll.sort ===== -/
theorem nlt_tr {x y z : List Int} (h1 : ¬ y < x) (h2 : ¬ z < y) : ¬ z < x := fun h => by
  rcases Classical.em (x < y) with q | q
  · exact h2 (List.lt_trans h q)
  · rw [tot_eq q h1] at h; exact h2 h
theorem RK_1 {T : List Int} {rk : Int → Int} (h : ∀ i : Nat, i < T.length → rk (i : Int) = ch T (i : Int)) : RK T 1 rk := by
  intro i j hi hj
  rw [h i hi, h j hj]
  have e : ∀ x, x < T.length → Kp T 1 x = [ch T (x : Int)] := fun x hx => by
    unfold Kp ch
    rw [Int.toNat_natCast, List.getD_eq_getElem?_getD, List.getElem?_eq_getElem hx, List.drop_eq_getElem_cons hx]
    rfl
  rw [e i hi, e j hj, ltc]
  simp
theorem c_sort (l : Launch) (u : Mem) {E sc a1 a3 a4 a5 a6 : Nat} {T : List Int} (hX : SX u sc a1 a3 a4 a5 a6) (hR : RO E u (rv_ u sc 0) T) (hT : T.length ≤ 120) (hs7 : iv_ u sc 7 = 0 ∨ (iv_ u sc 7 = 1 ∧ SAr T (iv_ u a3) (iv_ u a4) (iv_ u a6))) :
    Mt_ l yX10_sort cX10_sort 7 none 3 0 0 [aR sc] u (qV fun v => SAr T (iv_ v a3) (iv_ v a4) (iv_ v a6) ∧ Iw u v sc a3 a4 a5 a6 ∧ iv_ v sc 7 = 1) := by
  obtain ⟨n1, n2⟩ := hX.ne
  have hXu := hX
  obtain ⟨⟨ks, r1, r3, r4, r5, r6⟩, ⟨k1, l1⟩, ⟨k3, l3⟩, ⟨k4, l4⟩, ⟨k5, l5⟩, ⟨k6, l6⟩, d34, d35, d36, d45, d46, d56⟩ := hX
  refine Mt_of (by decide) (Nat.le_of_ble_eq_true rfl) (fun X ho hX hN hI => ?_)
  subst hX
  show Z X 0 [some (aR sc), none, none, none, none, none, none] [] u 0 0
  refine z_wf (fun hw => ?_)
  obtain ⟨hr1, hr2⟩ := hR.len hw
  have kv3 : ∀ {v : Mem}, Iw u v sc a3 a4 a5 a6 → kd_ v a3 = 100 ∧ ln_ v a3 = 120 := fun hI => ⟨by rw [(hI.2.1 _).1]; exact k3, by rw [(hI.2.1 _).2]; exact l3⟩
  have kv4 : ∀ {v : Mem}, Iw u v sc a3 a4 a5 a6 → kd_ v a4 = 100 ∧ ln_ v a4 = 120 := fun hI => ⟨by rw [(hI.2.1 _).1]; exact k4, by rw [(hI.2.1 _).2]; exact l4⟩
  have kv5 : ∀ {v : Mem}, Iw u v sc a3 a4 a5 a6 → kd_ v a5 = 100 ∧ ln_ v a5 = 120 := fun hI => ⟨by rw [(hI.2.1 _).1]; exact k5, by rw [(hI.2.1 _).2]; exact l5⟩
  -- the last part: what neighbours share
  have fin : ∀ (v : Mem) (SL : List Nat) (ap far t4 t5 t6 : Option AV), Iw u v sc a3 a4 a5 a6 → iv_ v sc 7 = 1 → SA0 T (iv_ v a3) (iv_ v a4) SL → Z X 295 [some (aR sc), some (aI (T.length : Int)), ap, far, t4, t5, t6] [] v 0 0 := by
    intro v SL ap far t4 t5 t6 hI h7 hS
    have Xv := hXu.iw hI
    have Rv : RO E v (rv_ v sc 0) T := by rw [hI.2.2.1]; exact RO.iw hXu hI hR
    refine z_aload_n ho dX10_sort_295 rfl ?_
    refine z_iload_n ho dX10_sort_296 rfl ?_
    refine kX10_90 ho hN (c_share _ _ Xv Rv hT hS) dX10_sort_297 Xv.1.1 (by omega) (Nat.le_of_ble_eq_true rfl) (Nat.le_of_ble_eq_true rfl) (Nat.le_of_ble_eq_true rfl) (fun u297 h297 => ?_)
    obtain ⟨s1, s2, s3⟩ := h297
    refine r_V ho dX10_sort_300 (Nat.le_of_ble_eq_true rfl) (Nat.le_of_ble_eq_true rfl) ?_
    refine ⟨s1, ?_, by rw [s3]; exact h7⟩
    exact ⟨s2.1.trans hI.1, fun a => ⟨(s2.2.1 a).1.trans (hI.2.1 a).1, (s2.2.1 a).2.trans (hI.2.1 a).2⟩, fun a i => (s2.2.2.1 a i).trans (hI.2.2.1 a i), fun a q0 q1 q2 q3 q4 i => (s2.2.2.2.1 a q0 q1 q2 q3 q4 i).trans (hI.2.2.2.1 a q0 q1 q2 q3 q4 i), fun i hi => (s2.2.2.2.2 i hi).trans (hI.2.2.2.2 i hi)⟩
  have hRv : ∀ {v : Mem}, Iw u v sc a3 a4 a5 a6 → RO E v (rv_ v sc 0) T := fun {v} hI => by rw [hI.2.2.1]; exact RO.iw hXu hI hR
  -- a pass
  have pass : ∀ (m h : Nat) (v : Mem) (SL : List Nat) (t4 t5 t6 : Option AV), T.length - h = m → 1 ≤ h → h ≤ 240 → 0 < T.length → Iw u v sc a3 a4 a5 a6 → iv_ v sc 7 = 1 → SL.Perm (List.range T.length) → AN v a3 0 SL → RK T h (iv_ v a4) → (∀ i : Nat, i < T.length → 0 ≤ iv_ v a4 (i : Int) ∧ iv_ v a4 (i : Int) < 65536) → Z X 64 [some (aR sc), some (aI (T.length : Int)), some (aI 0), some (aI (h : Int)), t4, t5, t6] [] v 0 0 := by
    intro m
    induction m using Nat.strongRecOn with
    | _ m ihm =>
    intro h v0 SL0 t4 t5 t6 hm h1 h2 hT0 hI0 h70 hp0 hA0 hK0 hr0
    -- the ranks are copied; the test
    have tst : ∀ (v : Mem) (SL : List Nat) (t4 t5 t6 : Option AV), Iw u v sc a3 a4 a5 a6 → iv_ v sc 7 = 1 → SL.Perm (List.range T.length) → AN v a3 0 SL → SL.Pairwise (fun x y => ¬ Kp T (2 * h) y < Kp T (2 * h) x) → (∀ x : Nat, SL[0]? = some x → iv_ v a4 (x : Int) = 0) → (∀ (k : Nat) x y, SL[k]? = some x → SL[k + 1]? = some y → iv_ v a4 (y : Int) = iv_ v a4 (x : Int) + (if Kp T (2 * h) x < Kp T (2 * h) y then 1 else 0)) → Z X 263 [some (aR sc), some (aI (T.length : Int)), some (aI 0), some (aI (h : Int)), t4, t5, t6] [] v 0 0 := by
      intro v SL t4 t5 t6 hI h7 hp hA hs hf0 hf
      have Xv := hXu.iw hI
      have ks' := Xv.1.1
      have hlen : SL.length = T.length := by have := hp.length_eq; simpa using this
      have hz : SL[T.length - 1]? = some SL[T.length - 1] := List.getElem?_eq_getElem (by omega)
      generalize SL[T.length - 1] = z at hz
      have hzn : z < T.length := List.mem_range.mp (hp.mem_iff.mp (List.mem_of_getElem? hz))
      obtain ⟨g1, g2⟩ := fresh_RK hp hs hf0 hf
      have ez : iv_ v a3 ((T.length : Int) - 1) = (z : Int) := by
        have := hA (T.length - 1) z hz
        rw [← this]; congr 1; omega
      have gz := g2 _ z hz
      refine z_aload_n ho dX10_sort_263 rfl ?_
      refine gX10_21 ho dX10_sort_264 ks' ?_
      rw [Xv.1.2.2.2.1]
      refine z_aload_n ho dX10_sort_267 rfl ?_
      refine gX10_17 ho dX10_sort_268 ks' ?_
      rw [Xv.1.2.2.1]
      refine z_iload_n ho dX10_sort_271 rfl ?_
      refine z_iconst ho dX10_sort_272 ?_
      refine z_isub ho dX10_sort_273 ?_
      refine z_iald ho dX10_sort_274 (kv3 hI).1 (by omega) (by rw [(kv3 hI).2]; omega) ?_
      rw [ez]
      refine z_iald ho dX10_sort_275 (kv4 hI).1 (by omega) (by rw [(kv4 hI).2]; omega) ?_
      refine z_iload_n ho dX10_sort_276 rfl ?_
      refine z_iconst ho dX10_sort_277 ?_
      refine z_isub ho dX10_sort_278 ?_
      refine z_icmp_ne (tgt := 286) ho dX10_sort_279 (by decide) (by unfold rng; omega) (by unfold rng; omega) (fun c279 => ?_) (fun c279 => ?_)
      · 
        refine z_iconst ho dX10_sort_286 ?_
        have hlt : 2 * h < T.length := by
          rcases Nat.lt_or_ge (2 * h) T.length with q | q
          · exact q
          · have := far_apart hp hs hf0 hf q _ z hz
            omega
        refine z_istore_n ho dX10_sort_287 (Nat.le_of_ble_eq_true rfl) rfl ?_
        refine z_iload_n ho dX10_sort_288 rfl ?_
        refine z_iconst ho dX10_sort_289 ?_
        refine z_imul ho dX10_sort_290 ?_
        refine z_istore_n ho dX10_sort_291 (Nat.le_of_ble_eq_true rfl) rfl ?_
        refine z_goto (tgt := 64) ho dX10_sort_292 (by decide) ?_
        have := ihm (T.length - 2 * h) (by omega) (2 * h) v SL t4 t5 t6 rfl (by omega) (by omega) hT0 hI h7 hp hA g1 (fun i hi => by
          obtain ⟨k, hk, hkn⟩ := mem_ix hp hi
          have := g2 k i hk
          omega)
        rw [show ((2 * h : Nat) : Int) = (h : Int) * 2 by omega] at this
        exact this
      · 
        refine z_iconst ho dX10_sort_282 ?_
        refine z_goto (tgt := 287) ho dX10_sort_283 (by decide) ?_
        obtain ⟨e1, e2⟩ := apart_law hp hs hf0 hf z hz c279
        refine z_istore_n ho dX10_sort_287 (Nat.le_of_ble_eq_true rfl) rfl ?_
        refine z_iload_n ho dX10_sort_288 rfl ?_
        refine z_iconst ho dX10_sort_289 ?_
        refine z_imul ho dX10_sort_290 ?_
        refine z_istore_n ho dX10_sort_291 (Nat.le_of_ble_eq_true rfl) rfl ?_
        refine z_goto (tgt := 64) ho dX10_sort_292 (by decide) ?_
        refine z_iload_n ho dX10_sort_64 rfl ?_
        refine z_if_ne (tgt := 295) ho dX10_sort_65 (by decide) (by unfold rng; omega) (fun c65 => ?_) (fun c65 => ?_)
        · exact fin v SL _ _ _ _ _ hI h7 ⟨hp, e2, fun k x hx => ⟨by have := hA k x hx; rw [Nat.zero_add] at this; exact this, e1 k x hx⟩⟩
        · exact absurd c65 (by decide)
    have copy : ∀ (m k : Nat) (v : Mem) (SL : List Nat) (f : Int → Int) (t5 t6 : Option AV), m + k = T.length → Iw u v sc a3 a4 a5 a6 → iv_ v sc 7 = 1 → SL.Perm (List.range T.length) → AN v a3 0 SL → SL.Pairwise (fun x y => ¬ Kp T (2 * h) y < Kp T (2 * h) x) → (∀ x : Nat, SL[0]? = some x → f (x : Int) = 0) → (∀ (k : Nat) x y, SL[k]? = some x → SL[k + 1]? = some y → f (y : Int) = f (x : Int) + (if Kp T (2 * h) x < Kp T (2 * h) y then 1 else 0)) → (∀ i, iv_ v a5 i = f i) → (∀ i : Nat, i < k → iv_ v a4 (i : Int) = f (i : Int)) → Z X 237 [some (aR sc), some (aI (T.length : Int)), some (aI 0), some (aI (h : Int)), some (aI (k : Int)), t5, t6] [] v 0 0 := by
      intro m
      induction m with
      | zero =>
        intro k v SL f t5 t6 hmk hI h7 hp hA hs hf0 hf h5 h4
        have mem : ∀ (k : Nat) x, SL[k]? = some x → x < T.length := fun k x hx => List.mem_range.mp (hp.mem_iff.mp (List.mem_of_getElem? hx))
        refine z_iload ho dX10_sort_237 rfl ?_
        refine z_iload_n ho dX10_sort_239 rfl ?_
        refine z_icmp_ge (tgt := 263) ho dX10_sort_240 (by decide) (by unfold rng; omega) (by unfold rng; omega) (fun c240 => ?_) (fun c240 => ?_)
        · exact tst v SL _ _ _ hI h7 hp hA hs (fun x hx => by rw [h4 x (by have := mem 0 x hx; omega)]; exact hf0 x hx) (fun q x y hx hy => by rw [h4 x (by have := mem q x hx; omega), h4 y (by have := mem _ y hy; omega)]; exact hf q x y hx hy)
        · omega
      | succ m ihc =>
        intro k v SL f t5 t6 hmk hI h7 hp hA hs hf0 hf h5 h4
        have Xv := hXu.iw hI
        have ks' := Xv.1.1
        refine z_iload ho dX10_sort_237 rfl ?_
        refine z_iload_n ho dX10_sort_239 rfl ?_
        refine z_icmp_ge (tgt := 263) ho dX10_sort_240 (by decide) (by unfold rng; omega) (by unfold rng; omega) (fun c240 => ?_) (fun c240 => ?_)
        · omega
        · 
          refine z_aload_n ho dX10_sort_243 rfl ?_
          refine gX10_21 ho dX10_sort_244 ks' ?_
          rw [Xv.1.2.2.2.1]
          refine z_iload ho dX10_sort_247 rfl ?_
          refine z_aload_n ho dX10_sort_249 rfl ?_
          refine gX10_24 ho dX10_sort_250 ks' ?_
          rw [Xv.1.2.2.2.2.1]
          refine z_iload ho dX10_sort_253 rfl ?_
          refine z_iald ho dX10_sort_255 (kv5 hI).1 (by omega) (by rw [(kv5 hI).2]; omega) ?_
          rw [h5]
          refine z_iast ho dX10_sort_256 (kv4 hI).1 (by omega) (by rw [(kv4 hI).2]; omega) ?_
          refine z_iinc ho dX10_sort_257 rfl rfl ?_
          refine z_goto (tgt := 237) ho dX10_sort_260 (by decide) ?_
          have := ihc (k + 1) (wI_ v a4 (k : Int) (f (k : Int))) SL f t5 t6 (by omega) (hI.w (by simp) n1.2.2.1) (by rw [iv_wI, if_neg (fun z => n1.2.2.1 z.1)]; exact h7) hp (hA.wI (Or.inl (Ne.symm d34))) hs hf0 hf (fun i => by rw [iv_wI, if_neg (fun z => d45 z.1.symm)]; exact h5 i) (fun i hi => by
            rw [iv_wI]
            by_cases z : i = k
            · rw [if_pos ⟨rfl, by rw [z]⟩, z]
            · rw [if_neg (by omega)]; exact h4 i (by omega))
          exact this
    -- fresh ranks
    have fresh : ∀ (B A : List Nat) (v : Mem) (t5 t6 : Option AV), A ≠ [] → (A ++ B).Perm (List.range T.length) → Iw u v sc a3 a4 a5 a6 → iv_ v sc 7 = 1 → AN v a3 0 (A ++ B) → (A ++ B).Pairwise (fun x y => ¬ Kp T (2 * h) y < Kp T (2 * h) x) → (∀ i, iv_ v a4 i = iv_ v0 a4 i) → (∀ x : Nat, A[0]? = some x → iv_ v a5 (x : Int) = 0) → (∀ (k : Nat) x y, A[k]? = some x → A[k + 1]? = some y → iv_ v a5 (y : Int) = iv_ v a5 (x : Int) + (if Kp T (2 * h) x < Kp T (2 * h) y then 1 else 0)) → Z X 166 [some (aR sc), some (aI (T.length : Int)), some (aI 0), some (aI (h : Int)), some (aI (A.length : Int)), t5, t6] [] v 0 0 := by
      intro B
      induction B with
      | nil =>
        intro A v t5 t6 hAn hp hI h7 hA hs he hf0 hf
        rw [List.append_nil] at hp hA hs
        have hlen : A.length = T.length := by have := hp.length_eq; simpa using this
        refine z_iload ho dX10_sort_166 rfl ?_
        refine z_iload_n ho dX10_sort_168 rfl ?_
        refine z_icmp_ge (tgt := 234) ho dX10_sort_169 (by decide) (by unfold rng; omega) (by unfold rng; omega) (fun c169 => ?_) (fun c169 => ?_)
        · 
          refine z_iconst ho dX10_sort_234 ?_
          refine z_istore ho dX10_sort_235 (Nat.le_of_ble_eq_true rfl) rfl ?_
          exact copy T.length 0 v A (iv_ v a5) t5 t6 (by omega) hI h7 hp hA hs hf0 hf (fun _ => rfl) (fun i hi => by omega)
        · omega
      | cons y B ihB =>
        intro A v t5 t6 hAn hp hI h7 hA hs he hf0 hf
        have hlen : A.length + (B.length + 1) = T.length := by have := hp.length_eq; simpa using this
        have Xv := hXu.iw hI
        have ks' := Xv.1.1
        rcases List.eq_nil_or_concat A with z | ⟨A', x, hA'⟩
        · exact absurd z hAn
        rw [List.concat_eq_append] at hA'
        have hAl : A.length = A'.length + 1 := by rw [hA']; simp
        have mem : ∀ q ∈ A ++ y :: B, q < T.length := fun q hq => List.mem_range.mp (hp.mem_iff.mp hq)
        have hxn := mem x (by rw [hA']; simp)
        have hyn := mem y (by simp)
        have ey : iv_ v a3 (A.length : Int) = (y : Int) := by
          have := hA A.length y (by simp)
          rw [Nat.zero_add] at this; exact this
        have ex : iv_ v a3 ((A.length : Int) - 1) = (x : Int) := by
          have := hA A'.length x (by rw [hA']; simp)
          rw [Nat.zero_add] at this
          rw [← this]; congr 1; omega
        have hnd : (A ++ y :: B).Nodup := hp.nodup_iff.mpr List.nodup_range
        have hyA : y ∉ A := fun z => (List.nodup_append.mp hnd).2.2 y z y (by simp) rfl
        have hKv : RK T h (iv_ v a4) := by rw [show iv_ v a4 = iv_ v0 a4 from funext he]; exact hK0
        have hrv : ∀ i : Nat, i < T.length → 0 ≤ iv_ v a4 (i : Int) ∧ iv_ v a4 (i : Int) < 65536 := fun i hi => by rw [he]; exact hr0 i hi
        have nxt : ∀ d : Int, d = (if Kp T (2 * h) x < Kp T (2 * h) y then 1 else 0) → Z X 226 [some (aR sc), some (aI (T.length : Int)), some (aI 0), some (aI (h : Int)), some (aI (A.length : Int)), t5, t6] [aI d, aI (iv_ v a5 (x : Int)), aI (y : Int), aR a5] v 0 0 := fun d hd => by
          refine z_iadd ho dX10_sort_226 ?_
          refine z_iast ho dX10_sort_227 (kv5 hI).1 (by omega) (by rw [(kv5 hI).2]; omega) ?_
          refine z_iinc ho dX10_sort_228 rfl rfl ?_
          refine z_goto (tgt := 166) ho dX10_sort_231 (by decide) ?_
          have := ihB (A ++ [y]) (wI_ v a5 (y : Int) (iv_ v a5 (x : Int) + d)) t5 t6 (by simp) (by rw [List.append_assoc]; exact hp) (hI.w (by simp) n1.2.2.2.1) (by rw [iv_wI, if_neg (fun z => n1.2.2.2.1 z.1)]; exact h7) (by rw [List.append_assoc]; exact hA.wI (Or.inl (Ne.symm d35))) (by rw [List.append_assoc]; exact hs) (fun i => by rw [iv_wI, if_neg (fun z => d45 z.1)]; exact he i) (fun q hq => ?_) (fun k q p hq hp' => ?_)
          · rw [List.length_append] at this
            exact this
          · rw [List.getElem?_append_left (by omega)] at hq
            have : q ≠ y := fun z => hyA (z ▸ List.mem_of_getElem? hq)
            rw [iv_wI, if_neg (by omega)]
            exact hf0 q hq
          · by_cases hk : k + 1 < A.length
            · rw [List.getElem?_append_left (by omega)] at hq
              rw [List.getElem?_append_left hk] at hp'
              have n1' : q ≠ y := fun z => hyA (z ▸ List.mem_of_getElem? hq)
              have n2' : p ≠ y := fun z => hyA (z ▸ List.mem_of_getElem? hp')
              rw [iv_wI, if_neg (by omega), iv_wI, if_neg (by omega)]
              exact hf k q p hq hp'
            · have hk1 := (List.getElem?_eq_some_iff.mp hp').1
              simp at hk1
              have hke : k = A'.length := by omega
              subst hke
              rw [List.getElem?_append_left (by omega), hA'] at hq
              simp at hq
              rw [List.getElem?_append_right (by omega), show A'.length + 1 - A.length = 0 by omega] at hp'
              simp at hp'
              subst hq
              subst hp'
              have n1' : x ≠ y := fun z => hyA (by rw [← z, hA']; simp)
              rw [iv_wI, if_pos ⟨rfl, rfl⟩, iv_wI, if_neg (by omega), hd]
        refine z_iload ho dX10_sort_166 rfl ?_
        refine z_iload_n ho dX10_sort_168 rfl ?_
        refine z_icmp_ge (tgt := 234) ho dX10_sort_169 (by decide) (by unfold rng; omega) (by unfold rng; omega) (fun c169 => ?_) (fun c169 => ?_)
        · omega
        · 
          refine z_aload_n ho dX10_sort_172 rfl ?_
          refine gX10_24 ho dX10_sort_173 ks' ?_
          rw [Xv.1.2.2.2.2.1]
          refine z_aload_n ho dX10_sort_176 rfl ?_
          refine gX10_17 ho dX10_sort_177 ks' ?_
          rw [Xv.1.2.2.1]
          refine z_iload ho dX10_sort_180 rfl ?_
          refine z_iald ho dX10_sort_182 (kv3 hI).1 (by omega) (by rw [(kv3 hI).2]; omega) ?_
          rw [ey]
          refine z_aload_n ho dX10_sort_183 rfl ?_
          refine gX10_24 ho dX10_sort_184 ks' ?_
          rw [Xv.1.2.2.2.2.1]
          refine z_aload_n ho dX10_sort_187 rfl ?_
          refine gX10_17 ho dX10_sort_188 ks' ?_
          rw [Xv.1.2.2.1]
          refine z_iload ho dX10_sort_191 rfl ?_
          refine z_iconst ho dX10_sort_193 ?_
          refine z_isub ho dX10_sort_194 ?_
          refine z_iald ho dX10_sort_195 (kv3 hI).1 (by omega) (by rw [(kv3 hI).2]; omega) ?_
          rw [ex]
          refine z_iald ho dX10_sort_196 (kv5 hI).1 (by omega) (by rw [(kv5 hI).2]; omega) ?_
          refine z_aload_n ho dX10_sort_197 rfl ?_
          refine z_aload_n ho dX10_sort_198 rfl ?_
          refine gX10_17 ho dX10_sort_199 ks' ?_
          rw [Xv.1.2.2.1]
          refine z_iload ho dX10_sort_202 rfl ?_
          refine z_iconst ho dX10_sort_204 ?_
          refine z_isub ho dX10_sort_205 ?_
          refine z_iald ho dX10_sort_206 (kv3 hI).1 (by omega) (by rw [(kv3 hI).2]; omega) ?_
          rw [ex]
          refine z_aload_n ho dX10_sort_207 rfl ?_
          refine gX10_17 ho dX10_sort_208 ks' ?_
          rw [Xv.1.2.2.1]
          refine z_iload ho dX10_sort_211 rfl ?_
          refine z_iald ho dX10_sort_213 (kv3 hI).1 (by omega) (by rw [(kv3 hI).2]; omega) ?_
          rw [ey]
          refine z_iload_n ho dX10_sort_214 rfl ?_
          refine kX10_87 ho hN (c_compare _ _ Xv (hRv hI) hT hxn hyn h1 (by omega) hKv hrv) dX10_sort_215 ks' (by omega) (Nat.le_of_ble_eq_true rfl) (Nat.le_of_ble_eq_true rfl) (Nat.le_of_ble_eq_true rfl) (fun x215 u215 h215 => ?_)
          obtain ⟨rfl, hq⟩ := h215
          refine z_if_ge (tgt := 225) ho dX10_sort_218 (by decide) (by rcases hq with ⟨z, -⟩ | ⟨z, -⟩ | ⟨z, -⟩ <;> rw [z] <;> unfold rng <;> omega) (fun c218 => ?_) (fun c218 => ?_)
          · 
            refine z_iconst ho dX10_sort_225 ?_
            refine nxt 0 ?_
            rw [if_neg]
            intro z
            rcases hq with ⟨q1, -⟩ | ⟨-, q2⟩ | ⟨-, q2⟩
            · omega
            · rw [q2] at z; exact List.lt_irrefl _ z
            · exact List.lt_irrefl _ (List.lt_trans z q2)
          · 
            refine z_iconst ho dX10_sort_221 ?_
            refine z_goto (tgt := 226) ho dX10_sort_222 (by decide) ?_
            refine nxt 1 ?_
            rw [if_pos]
            rcases hq with ⟨-, q2⟩ | ⟨q1, -⟩ | ⟨q1, -⟩
            · exact q2
            · omega
            · omega
    -- the sort by insertion
    have srt : ∀ (R P : List Nat) (v : Mem) (t5 t6 : Option AV), P ≠ [] → (P ++ R).Perm (List.range T.length) → Iw u v sc a3 a4 a5 a6 → iv_ v sc 7 = 1 → AN v a3 0 (P ++ R) → P.Pairwise (fun x y => ¬ Kp T (2 * h) y < Kp T (2 * h) x) → (∀ i, iv_ v a4 i = iv_ v0 a4 i) → Z X 71 [some (aR sc), some (aI (T.length : Int)), some (aI 0), some (aI (h : Int)), some (aI (P.length : Int)), t5, t6] [] v 0 0 := by
      intro R
      induction R with
      | nil =>
        intro P v t5 t6 hPn hp hI h7 hA hs he
        rw [List.append_nil] at hp hA
        have hlen : P.length = T.length := by have := hp.length_eq; simpa using this
        have Xv := hXu.iw hI
        have ks' := Xv.1.1
        cases P with
        | nil => exact absurd rfl hPn
        | cons x P =>
          have hxn : x < T.length := List.mem_range.mp (hp.mem_iff.mp (by simp))
          have ex : iv_ v a3 0 = (x : Int) := (AN.cons.mp hA).1
          refine z_iload ho dX10_sort_71 rfl ?_
          refine z_iload_n ho dX10_sort_73 rfl ?_
          refine z_icmp_ge (tgt := 151) ho dX10_sort_74 (by decide) (by unfold rng; omega) (by unfold rng; omega) (fun c74 => ?_) (fun c74 => ?_)
          · 
            refine z_aload_n ho dX10_sort_151 rfl ?_
            refine gX10_24 ho dX10_sort_152 ks' ?_
            rw [Xv.1.2.2.2.2.1]
            refine z_aload_n ho dX10_sort_155 rfl ?_
            refine gX10_17 ho dX10_sort_156 ks' ?_
            rw [Xv.1.2.2.1]
            refine z_iconst ho dX10_sort_159 ?_
            refine z_iald ho dX10_sort_160 (kv3 hI).1 (by omega) (by rw [(kv3 hI).2]; omega) ?_
            rw [ex]
            refine z_iconst ho dX10_sort_161 ?_
            refine z_iast ho dX10_sort_162 (kv5 hI).1 (by omega) (by rw [(kv5 hI).2]; omega) ?_
            refine z_iconst ho dX10_sort_163 ?_
            refine z_istore ho dX10_sort_164 (Nat.le_of_ble_eq_true rfl) rfl ?_
            have := fresh P [x] (wI_ v a5 (x : Int) 0) t5 t6 (by simp) hp (hI.w (by simp) n1.2.2.2.1) (by rw [iv_wI, if_neg (fun z => n1.2.2.2.1 z.1)]; exact h7) (hA.wI (Or.inl (Ne.symm d35))) hs (fun i => by rw [iv_wI, if_neg (fun z => d45 z.1)]; exact he i) (fun q hq => by simp at hq; rw [← hq, iv_wI, if_pos ⟨rfl, rfl⟩]) (fun k q p _ hp' => by simp at hp')
            exact this
          · omega
      | cons s R ihR =>
        intro P v t5 t6 hPn hp hI h7 hA hs he
        have hlen : P.length + (R.length + 1) = T.length := by have := hp.length_eq; simpa using this
        have mem : ∀ q ∈ P ++ s :: R, q < T.length := fun q hq => List.mem_range.mp (hp.mem_iff.mp hq)
        have hsn := mem s (by simp)
        obtain ⟨hA1, hA2⟩ := AN.app.mp hA
        obtain ⟨es, hA3⟩ := AN.cons.mp hA2
        rw [Nat.zero_add] at es hA3
        have insL : ∀ (A B : List Nat) (v : Mem), P = A ++ B → Iw u v sc a3 a4 a5 a6 → iv_ v sc 7 = 1 → AN v a3 0 A → AN v a3 (A.length + 1) B → AN v a3 (P.length + 1) R → (∀ b ∈ B, Kp T (2 * h) s < Kp T (2 * h) b) → (∀ i, iv_ v a4 i = iv_ v0 a4 i) → Z X 90 [some (aR sc), some (aI (T.length : Int)), some (aI 0), some (aI (h : Int)), some (aI (P.length : Int)), some (aI (s : Int)), some (aI (A.length : Int))] [] v 0 0 := by
          intro A
          have put : ∀ (A B : List Nat) (v : Mem), P = A ++ B → Iw u v sc a3 a4 a5 a6 → iv_ v sc 7 = 1 → AN v a3 0 A → AN v a3 (A.length + 1) B → AN v a3 (P.length + 1) R → (∀ b ∈ B, Kp T (2 * h) s < Kp T (2 * h) b) → (∀ a ∈ A, ¬ Kp T (2 * h) s < Kp T (2 * h) a) → (∀ i, iv_ v a4 i = iv_ v0 a4 i) → Z X 136 [some (aR sc), some (aI (T.length : Int)), some (aI 0), some (aI (h : Int)), some (aI (P.length : Int)), some (aI (s : Int)), some (aI (A.length : Int))] [] v 0 0 := by
            intro A B v hAB hI h7 q1 q2 q3 q4 q5 he
            have Xv := hXu.iw hI
            have hAl : P.length = A.length + B.length := by rw [hAB]; simp
            refine z_aload_n ho dX10_sort_136 rfl ?_
            refine gX10_17 ho dX10_sort_137 Xv.1.1 ?_
            rw [Xv.1.2.2.1]
            refine z_iload ho dX10_sort_140 rfl ?_
            refine z_iload ho dX10_sort_142 rfl ?_
            refine z_iast ho dX10_sort_144 (kv3 hI).1 (by omega) (by rw [(kv3 hI).2]; omega) ?_
            refine z_iinc ho dX10_sort_145 rfl rfl ?_
            refine z_goto (tgt := 71) ho dX10_sort_148 (by decide) ?_
            have e9 : (A ++ s :: B).length = P.length + 1 := by simp; omega
            have := ihR (A ++ s :: B) (wI_ v a3 (A.length : Int) (s : Int)) (some (aI (s : Int))) (some (aI (A.length : Int))) (by simp) (by
                refine List.Perm.trans ?_ hp
                rw [hAB, List.append_assoc, List.append_assoc]
                refine List.Perm.append_left A ?_
                rw [List.cons_append]
                exact (List.perm_middle (l₁ := B) (a := s) (l₂ := R)).symm) (hI.w (by simp) n1.2.1) (by rw [iv_wI, if_neg (fun z => n1.2.1 z.1)]; exact h7) (by
                rw [List.append_assoc]
                refine AN.app.mpr ⟨q1.wI (Or.inr (Or.inr (by omega))), ?_⟩
                rw [List.cons_append, Nat.zero_add]
                refine AN.cons.mpr ⟨by rw [iv_wI, if_pos ⟨rfl, rfl⟩], AN.app.mpr ⟨q2.wI (Or.inr (Or.inl (by omega))), ?_⟩⟩
                rw [show A.length + 1 + B.length = P.length + 1 by omega]
                exact q3.wI (Or.inr (Or.inl (by omega)))) (by
                rw [hAB] at hs
                obtain ⟨p1, p2, p3⟩ := List.pairwise_append.mp hs
                refine List.pairwise_append.mpr ⟨p1, List.pairwise_cons.mpr ⟨fun b hb z => List.lt_irrefl _ (List.lt_trans z (q4 b hb)), p2⟩, fun a ha b hb => ?_⟩
                rcases List.mem_cons.mp hb with z | z
                · rw [z]; exact q5 a ha
                · exact p3 a ha b z) (fun i => by rw [iv_wI, if_neg (fun z => d34 z.1.symm)]; exact he i)
            rw [e9] at this
            exact this
          generalize hn : A.length = n
          induction n generalizing A with
          | zero =>
            intro B v hAB hI h7 q1 q2 q3 q4 he
            have hA0 : A = [] := List.eq_nil_of_length_eq_zero hn
            subst hA0
            refine z_iload ho dX10_sort_90 rfl ?_
            refine z_if_le (tgt := 136) ho dX10_sort_92 (by decide) (by unfold rng; omega) (fun c92 => ?_) (fun c92 => ?_)
            · exact put [] B v hAB hI h7 q1 q2 q3 q4 (fun a ha => by simp at ha) he
            · exact absurd c92 (by decide)
          | succ n ihn =>
            intro B v hAB hI h7 q1 q2 q3 q4 he
            rcases List.eq_nil_or_concat A with z | ⟨A', x, hA'⟩
            · rw [z] at hn; simp at hn
            rw [List.concat_eq_append] at hA'
            subst hA'
            have hn' : A'.length = n := by simpa using hn
            have hPl : P.length = n + 1 + B.length := by rw [hAB]; simp; omega
            have Xv := hXu.iw hI
            have ks' := Xv.1.1
            have hxn := mem x (by rw [hAB]; simp)
            have ex : iv_ v a3 (((n + 1 : Nat) : Int) - 1) = (x : Int) := by
              have := (AN.cons.mp (AN.app.mp q1).2).1
              rw [Nat.zero_add] at this
              rw [← this]; congr 1; omega
            have hKv : RK T h (iv_ v a4) := by rw [show iv_ v a4 = iv_ v0 a4 from funext he]; exact hK0
            have hrv : ∀ i : Nat, i < T.length → 0 ≤ iv_ v a4 (i : Int) ∧ iv_ v a4 (i : Int) < 65536 := fun i hi => by rw [he]; exact hr0 i hi
            have stop_ : ¬ Kp T (2 * h) s < Kp T (2 * h) x → Z X 136 [some (aR sc), some (aI (T.length : Int)), some (aI 0), some (aI (h : Int)), some (aI (P.length : Int)), some (aI (s : Int)), some (aI ((n + 1 : Nat) : Int))] [] v 0 0 := fun hx => by
              have := put (A' ++ [x]) B v hAB hI h7 q1 (by rw [hn]; exact q2) q3 q4 (fun a ha => ?_) he
              · rw [hn] at this; exact this
              · rcases List.mem_append.mp ha with z | z
                · rw [hAB] at hs
                  have p1 := (List.pairwise_append.mp (List.pairwise_append.mp hs).1).2.2 a z x (by simp)
                  exact nlt_tr p1 hx
                · rw [List.mem_singleton.mp z]; exact hx
            refine z_iload ho dX10_sort_90 rfl ?_
            refine z_if_le (tgt := 136) ho dX10_sort_92 (by decide) (by unfold rng; omega) (fun c92 => ?_) (fun c92 => ?_)
            · omega
            · 
              refine z_aload_n ho dX10_sort_95 rfl ?_
              refine z_aload_n ho dX10_sort_96 rfl ?_
              refine gX10_17 ho dX10_sort_97 ks' ?_
              rw [Xv.1.2.2.1]
              refine z_iload ho dX10_sort_100 rfl ?_
              refine z_iconst ho dX10_sort_102 ?_
              refine z_isub ho dX10_sort_103 ?_
              refine z_iald ho dX10_sort_104 (kv3 hI).1 (by omega) (by rw [(kv3 hI).2]; omega) ?_
              rw [ex]
              refine z_iload ho dX10_sort_105 rfl ?_
              refine z_iload_n ho dX10_sort_107 rfl ?_
              refine kX10_87 ho hN (c_compare _ _ Xv (hRv hI) hT hxn hsn h1 (by omega) hKv hrv) dX10_sort_108 ks' (by omega) (Nat.le_of_ble_eq_true rfl) (Nat.le_of_ble_eq_true rfl) (Nat.le_of_ble_eq_true rfl) (fun x108 u108 h108 => ?_)
              obtain ⟨rfl, hq⟩ := h108
              refine z_if_le (tgt := 136) ho dX10_sort_111 (by decide) (by rcases hq with ⟨z, -⟩ | ⟨z, -⟩ | ⟨z, -⟩ <;> rw [z] <;> unfold rng <;> omega) (fun c111 => ?_) (fun c111 => ?_)
              · refine stop_ (fun z => ?_)
                rcases hq with ⟨-, y⟩ | ⟨-, y⟩ | ⟨y, -⟩
                · exact List.lt_irrefl _ (List.lt_trans z y)
                · rw [y] at z; exact List.lt_irrefl _ z
                · omega
              · have hsx : Kp T (2 * h) s < Kp T (2 * h) x := by
                  rcases hq with ⟨y, -⟩ | ⟨y, -⟩ | ⟨-, y⟩
                  · omega
                  · omega
                  · exact y
                refine z_aload_n ho dX10_sort_114 rfl ?_
                refine gX10_17 ho dX10_sort_115 ks' ?_
                rw [Xv.1.2.2.1]
                refine z_iload ho dX10_sort_118 rfl ?_
                refine z_aload_n ho dX10_sort_120 rfl ?_
                refine gX10_17 ho dX10_sort_121 ks' ?_
                rw [Xv.1.2.2.1]
                refine z_iload ho dX10_sort_124 rfl ?_
                refine z_iconst ho dX10_sort_126 ?_
                refine z_isub ho dX10_sort_127 ?_
                refine z_iald ho dX10_sort_128 (kv3 hI).1 (by omega) (by rw [(kv3 hI).2]; omega) ?_
                rw [ex]
                refine z_iast ho dX10_sort_129 (kv3 hI).1 (by omega) (by rw [(kv3 hI).2]; omega) ?_
                refine z_iinc ho dX10_sort_130 rfl rfl ?_
                refine z_goto (tgt := 90) ho dX10_sort_133 (by decide) ?_
                have := ihn A' hn' (x :: B) (wI_ v a3 ((n + 1 : Nat) : Int) (x : Int)) (by rw [hAB]; simp) (hI.w (by simp) n1.2.1) (by rw [iv_wI, if_neg (fun z => n1.2.1 z.1)]; exact h7) ((AN.app.mp q1).1.wI (Or.inr (Or.inr (by omega)))) (AN.cons.mpr ⟨by rw [iv_wI, if_pos ⟨rfl, by omega⟩], q2.wI (Or.inr (Or.inl (by omega)))⟩) (q3.wI (Or.inr (Or.inl (by omega)))) (fun b hb => by
                  rcases List.mem_cons.mp hb with z | z
                  · rw [z]; exact hsx
                  · exact q4 b z) (fun i => by rw [iv_wI, if_neg (fun z => d34 z.1.symm)]; exact he i)
                rw [show (n : Int) = ((n + 1 : Nat) : Int) + -1 by omega] at this
                exact this
        have Xv := hXu.iw hI
        refine z_iload ho dX10_sort_71 rfl ?_
        refine z_iload_n ho dX10_sort_73 rfl ?_
        refine z_icmp_ge (tgt := 151) ho dX10_sort_74 (by decide) (by unfold rng; omega) (by unfold rng; omega) (fun c74 => ?_) (fun c74 => ?_)
        · omega
        · 
          refine z_aload_n ho dX10_sort_77 rfl ?_
          refine gX10_17 ho dX10_sort_78 Xv.1.1 ?_
          rw [Xv.1.2.2.1]
          refine z_iload ho dX10_sort_81 rfl ?_
          refine z_iald ho dX10_sort_83 (kv3 hI).1 (by omega) (by rw [(kv3 hI).2]; omega) ?_
          rw [es]
          refine z_istore ho dX10_sort_84 (Nat.le_of_ble_eq_true rfl) rfl ?_
          refine z_iload ho dX10_sort_86 rfl ?_
          refine z_istore ho dX10_sort_88 (Nat.le_of_ble_eq_true rfl) rfl ?_
          exact insL P [] v (by simp) hI h7 hA1 (AN.nil _ _ _) hA3 (fun b hb => by simp at hb) he
    have hlen0 : SL0.length = T.length := by have := hp0.length_eq; simpa using this
    cases SL0 with
    | nil => simp at hlen0; omega
    | cons x SL0 =>
      refine z_iload_n ho dX10_sort_64 rfl ?_
      refine z_if_ne (tgt := 295) ho dX10_sort_65 (by decide) (by unfold rng; omega) (fun c65 => ?_) (fun c65 => ?_)
      · exact absurd rfl c65
      · 
        refine z_iconst ho dX10_sort_68 ?_
        refine z_istore ho dX10_sort_69 (Nat.le_of_ble_eq_true rfl) rfl ?_
        exact srt SL0 [x] v0 t5 t6 (by simp) hp0 hI0 h70 hA0 (by simp) (fun _ => rfl)
  -- the first ranks
  have strt : ∀ (m k : Nat) (v : Mem) (t3 t4 t5 t6 : Option AV), m + k = T.length → Iw u v sc a3 a4 a5 a6 → iv_ v sc 7 = 1 → AN v a3 0 (List.range k) → (∀ i : Nat, i < k → iv_ v a4 (i : Int) = ch T (i : Int)) → Z X 20 [some (aR sc), some (aI (T.length : Int)), some (aI (k : Int)), t3, t4, t5, t6] [] v 0 0 := by
    intro m
    induction m with
    | zero =>
      intro k v t3 t4 t5 t6 hmk hI h7 hA h4
      have hk : k = T.length := by omega
      subst hk
      refine z_iload_n ho dX10_sort_20 rfl ?_
      refine z_iload_n ho dX10_sort_21 rfl ?_
      refine z_icmp_ge (tgt := 52) ho dX10_sort_22 (by decide) (by unfold rng; omega) (by unfold rng; omega) (fun c22 => ?_) (fun c22 => ?_)
      · 
        refine z_iload_n ho dX10_sort_52 rfl ?_
        refine z_if_ne (tgt := 60) ho dX10_sort_53 (by decide) (by unfold rng; omega) (fun c53 => ?_) (fun c53 => ?_)
        · have h0 : 0 < T.length := by omega
          have hro : rv_ u sc 0 ≠ 0 := fun z => by rw [hr1.mp z] at h0; simp at h0
          obtain ⟨-, -, hRT⟩ := hr2 hro
          have hch := (RT.chars _ _ _ hRT).1
          refine z_iconst ho dX10_sort_60 ?_
          refine z_istore_n ho dX10_sort_61 (Nat.le_of_ble_eq_true rfl) rfl ?_
          refine z_iconst ho dX10_sort_62 ?_
          refine z_istore_n ho dX10_sort_63 (Nat.le_of_ble_eq_true rfl) rfl ?_
          refine pass _ 1 v (List.range T.length) _ _ _ rfl (by omega) (by omega) h0 hI h7 (List.Perm.refl _) hA (RK_1 h4) (fun i hi => ?_)
          rw [h4 i hi]
          unfold ch
          rw [Int.toNat_natCast, List.getD_eq_getElem?_getD, List.getElem?_eq_getElem hi]
          exact hch _ (List.getElem_mem _)
        · 
          refine z_iconst ho dX10_sort_56 ?_
          refine z_goto (tgt := 61) ho dX10_sort_57 (by decide) ?_
          refine z_istore_n ho dX10_sort_61 (Nat.le_of_ble_eq_true rfl) rfl ?_
          refine z_iconst ho dX10_sort_62 ?_
          refine z_istore_n ho dX10_sort_63 (Nat.le_of_ble_eq_true rfl) rfl ?_
          refine z_iload_n ho dX10_sort_64 rfl ?_
          refine z_if_ne (tgt := 295) ho dX10_sort_65 (by decide) (by unfold rng; omega) (fun c65 => ?_) (fun c65 => ?_)
          · refine fin v [] _ _ _ _ _ hI h7 ⟨?_, List.Pairwise.nil, fun k x hx => by simp at hx⟩
            have : T.length = 0 := by omega
            rw [this]; exact List.Perm.refl _
          · exact absurd c65 (by decide)
      · omega
    | succ m ih =>
      intro k v t3 t4 t5 t6 hmk hI h7 hA h4
      have Xv := hXu.iw hI
      have ks' := Xv.1.1
      have hro : rv_ u sc 0 ≠ 0 := fun z => by have := hr1.mp z; rw [this] at hmk; simp at hmk
      have ero : ∀ {w : Mem}, Iw u w sc a3 a4 a5 a6 → rv_ w sc 0 = rv_ u sc 0 := fun hI => hI.2.2.1 sc 0
      have hI2 : Iw u (wI_ v a3 (k : Int) (k : Int)) sc a3 a4 a5 a6 := hI.w (by simp) n1.2.1
      have hRT2 : RT E (wI_ v a3 (k : Int) (k : Int)) 12 (rv_ u sc 0) T := by
        rcases RO.iw hXu hI2 hR with ⟨z, -⟩ | z
        · exact absurd z hro
        · exact z
      refine z_iload_n ho dX10_sort_20 rfl ?_
      refine z_iload_n ho dX10_sort_21 rfl ?_
      refine z_icmp_ge (tgt := 52) ho dX10_sort_22 (by decide) (by unfold rng; omega) (by unfold rng; omega) (fun c22 => ?_) (fun c22 => ?_)
      · omega
      · 
        refine z_aload_n ho dX10_sort_25 rfl ?_
        refine gX10_17 ho dX10_sort_26 ks' ?_
        rw [Xv.1.2.2.1]
        refine z_iload_n ho dX10_sort_29 rfl ?_
        refine z_iload_n ho dX10_sort_30 rfl ?_
        refine z_iast ho dX10_sort_31 (kv3 hI).1 (by omega) (by rw [(kv3 hI).2]; omega) ?_
        refine z_aload_n ho dX10_sort_32 rfl ?_
        refine gX10_21 ho dX10_sort_33 ks' ?_
        rw [rv_wI, Xv.1.2.2.2.1]
        refine z_iload_n ho dX10_sort_36 rfl ?_
        refine z_aload_n ho dX10_sort_37 rfl ?_
        refine gX10_30 ho dX10_sort_38 ks' ?_
        rw [ero hI2]
        refine z_iload_n ho dX10_sort_41 rfl ?_
        refine kX10_73 ho hN (c_ropeat _ _ hRT2 (by omega) (by omega) (by omega)) dX10_sort_42 hRT2.kd.1 (by omega) (Nat.le_of_ble_eq_true rfl) (Nat.le_of_ble_eq_true rfl) (Nat.le_of_ble_eq_true rfl) (fun x42 u42 h42 => ?_)
        obtain ⟨rfl, rfl⟩ := h42
        refine z_iast ho dX10_sort_45 (kv4 hI2).1 (by omega) (by rw [(kv4 hI2).2]; omega) ?_
        refine z_iinc ho dX10_sort_46 rfl rfl ?_
        refine z_goto (tgt := 20) ho dX10_sort_49 (by decide) ?_
        have := ih (k + 1) (wI_ (wI_ v a3 (k : Int) (k : Int)) a4 (k : Int) (ch T (k : Int))) t3 t4 t5 t6 (by omega) (hI2.w (by simp) n1.2.2.1) (by rw [iv_wI, if_neg (fun z => n1.2.2.1 z.1), iv_wI, if_neg (fun z => n1.2.1 z.1)]; exact h7) (by
          rw [List.range_succ]
          refine AN.app.mpr ⟨(hA.wI (Or.inr (Or.inr (by simp)))).wI (Or.inl (Ne.symm d34)), AN.cons.mpr ⟨?_, AN.nil _ _ _⟩⟩
          rw [List.length_range, Nat.zero_add, iv_wI, if_neg (fun z => d34 z.1), iv_wI, if_pos ⟨rfl, rfl⟩]) (fun i hi => by
          rw [iv_wI]
          by_cases z : i = k
          · rw [if_pos ⟨rfl, by rw [z]⟩, z]
          · rw [if_neg (by omega), iv_wI, if_neg (fun z => d34 z.1.symm)]; exact h4 i (by omega))
        exact this
  refine z_aload_n ho dX10_sort_0 rfl ?_
  refine gX10_41 ho dX10_sort_1 ks ?_
  refine z_if_eq (tgt := 8) ho dX10_sort_4 (by decide) (by rcases hs7 with z | z <;> unfold rng <;> omega) (fun c4 => ?_) (fun c4 => ?_)
  · 
    refine z_aload_n ho dX10_sort_8 rfl ?_
    refine z_iconst ho dX10_sort_9 ?_
    refine pX10_41 ho dX10_sort_10 ks (Or.inr rfl) ?_
    refine z_aload_n ho dX10_sort_13 rfl ?_
    refine kX10_45 ho hN (c_slen _ _ (show kd_ (wI_ u sc 7 1) sc = 10 from ks) (hRv ((Iw.rf u sc a3 a4 a5 a6).w7))) dX10_sort_14 ks (by omega) (Nat.le_of_ble_eq_true rfl) (Nat.le_of_ble_eq_true rfl) (Nat.le_of_ble_eq_true rfl) (fun x14 u14 h14 => ?_)
    obtain ⟨rfl, rfl⟩ := h14
    refine z_istore_n ho dX10_sort_17 (Nat.le_of_ble_eq_true rfl) rfl ?_
    refine z_iconst ho dX10_sort_18 ?_
    refine z_istore_n ho dX10_sort_19 (Nat.le_of_ble_eq_true rfl) rfl ?_
    exact strt T.length 0 (wI_ u sc 7 1) none none none none (by omega) ((Iw.rf u sc a3 a4 a5 a6).w7) (by rw [iv_wI, if_pos ⟨rfl, rfl⟩]) (AN.nil _ _ _) (fun i hi => by omega)
  · obtain ⟨z1, z2⟩ := hs7.resolve_left c4
    refine r_V ho dX10_sort_7 (Nat.le_of_ble_eq_true rfl) (Nat.le_of_ble_eq_true rfl) ?_
    exact ⟨z2, Iw.rf u sc a3 a4 a5 a6, z1⟩
