set_option maxRecDepth 100000
/-! ===== KeyHallModel: the constructor ===== -/
/-- while it is made: L = the arrays that are there (field, kind, length), z = the number of views -/
def NIn (u w : Mem) (m : Nat) (L : List (Int × Nat × Int)) (z : Int) : Prop := sz_ w = m + (L.length + 1) ∧ kd_ w m = 13 ∧ (∀ a, a < m → Sm u w a) ∧ (∀ i, iv_ w m i = if i = 8 then z else 0) ∧ ∀ (j : Nat) q, L[j]? = some q → (rv_ w m q.1 = m + (j + 1) ∧ kd_ w (m + (j + 1)) = q.2.1 ∧ ln_ w (m + (j + 1)) = q.2.2) ∧ ∀ i, iv_ w (m + (j + 1)) i = 0
theorem NIn.k {u w : Mem} {m : Nat} {L : List (Int × Nat × Int)} {z : Int} (h : NIn u w m L z) (K : Nat) (n : Int) : kd_ (al_ w K n) m = 13 := by rw [kd_al, if_neg (by have := h.1; omega)]; exact h.2.1
theorem NIn.st {u w : Mem} {m : Nat} {L : List (Int × Nat × Int)} {z : Int} (h : NIn u w m L z) (K : Nat) (n f : Int) (hf : ∀ q ∈ L, q.1 ≠ f) : NIn u (wR_ (al_ w K n) m f (sz_ w)) m (L ++ [(f, K, n)]) z := by
  obtain ⟨h1, h2, h3, h4, h5⟩ := h
  refine ⟨by rw [sz_wR, sz_al, h1, List.length_append]; rfl, by rw [kd_wR, kd_al, if_neg (by omega)]; exact h2, fun a ha => ?_, fun i => by rw [iv_wR, iv_al, if_neg (by omega)]; exact h4 i, fun j q hq => ?_⟩
  · obtain ⟨s1, s2, s3, s4⟩ := h3 a ha
    exact ⟨by rw [kd_wR, kd_al, if_neg (by omega)]; exact s1, by rw [ln_wR, ln_al, if_neg (by omega)]; exact s2, fun i => by rw [iv_wR, iv_al, if_neg (by omega)]; exact s3 i, fun i => by rw [rv_wR, if_neg (by omega), rv_al, if_neg (by omega)]; exact s4 i⟩
  · by_cases y : j < L.length
    · rw [List.getElem?_append_left y] at hq
      obtain ⟨⟨q1, q2, q3⟩, q4⟩ := h5 j q hq
      have hne := hf q (List.mem_of_getElem? hq)
      exact ⟨⟨by rw [rv_wR, if_neg (fun z => hne z.2), rv_al, if_neg (by omega)]; exact q1, by rw [kd_wR, kd_al, if_neg (by omega)]; exact q2, by rw [ln_wR, ln_al, if_neg (by omega)]; exact q3⟩, fun i => by rw [iv_wR, iv_al, if_neg (by omega)]; exact q4 i⟩
    · have hl := (List.getElem?_eq_some_iff.mp hq).1
      rw [List.length_append] at hl
      simp at hl
      have he : j = L.length := by omega
      rw [he, List.getElem?_concat_length] at hq
      cases hq
      rw [he]
      exact ⟨⟨by rw [rv_wR, if_pos ⟨rfl, rfl⟩]; exact h1, by rw [kd_wR, kd_al, if_pos h1.symm], by rw [ln_wR, ln_al, if_pos h1.symm]⟩, fun i => by rw [iv_wR, iv_al, if_pos h1.symm]⟩
theorem NIn.v {u w : Mem} {m : Nat} {L : List (Int × Nat × Int)} {z x : Int} (h : NIn u w m L z) : NIn u (wI_ w m 8 x) m L x := by
  obtain ⟨h1, h2, h3, h4, h5⟩ := h
  refine ⟨by rw [sz_wI]; exact h1, by rw [kd_wI]; exact h2, fun a ha => ?_, fun i => ?_, fun j q hq => ?_⟩
  · obtain ⟨s1, s2, s3, s4⟩ := h3 a ha
    exact ⟨by rw [kd_wI]; exact s1, by rw [ln_wI]; exact s2, fun i => by rw [iv_wI, if_neg (by omega)]; exact s3 i, fun i => by rw [rv_wI]; exact s4 i⟩
  · rw [iv_wI]
    by_cases y : i = 8
    · rw [if_pos ⟨rfl, y⟩, if_pos y]
    · rw [if_neg (fun e => y e.2), if_neg y, h4, if_neg y]
  · obtain ⟨⟨q1, q2, q3⟩, q4⟩ := h5 j q hq
    exact ⟨⟨by rw [rv_wI]; exact q1, by rw [kd_wI]; exact q2, by rw [ln_wI]; exact q3⟩, fun i => by rw [iv_wI, if_neg (by omega)]; exact q4 i⟩
def LMI : List (Int × Nat × Int) := [(1, 100, 8), (3, 100, 3), (4, 100, 3), (5, 100, 1536), (6, 100, 192), (7, 100, 192), (9, 100, 12), (10, 100, 12), (11, 100, 12), (12, 100, 96), (13, 102, 12), (14, 102, 12), (15, 102, 12), (16, 100, 12), (17, 100, 12), (18, 100, 96), (19, 100, 8), (21, 102, 140), (23, 100, 580), (24, 100, 580), (25, 100, 580), (29, 102, 580), (30, 100, 580), (31, 100, 580), (32, 100, 580), (33, 100, 120), (35, 100, 2520), (36, 100, 21)]
theorem NIn.mf {u w : Mem} {m : Nat} {z : Int} (h : NIn u w m LMI z) : MF w m := by
  have g := fun j q hq => (h.2.2.2.2 j q hq).1
  exact ⟨h.2.1, g 0 _ rfl, g 1 _ rfl, g 2 _ rfl, g 3 _ rfl, g 4 _ rfl, g 5 _ rfl, g 6 _ rfl, g 7 _ rfl, g 8 _ rfl, g 9 _ rfl, g 10 _ rfl, g 11 _ rfl, g 12 _ rfl, g 13 _ rfl, g 14 _ rfl, g 15 _ rfl, g 16 _ rfl, g 17 _ rfl, g 18 _ rfl, g 19 _ rfl, g 20 _ rfl, g 21 _ rfl, g 22 _ rfl, g 23 _ rfl, g 24 _ rfl, g 25 _ rfl, g 26 _ rfl, g 27 _ rfl⟩
/-- the model when it is made -/
theorem NIn.ms {u w v : Mem} {m : Nat} (h : NIn u w m LMI 3) (hC : Cg m w v [] [7]) (hv : ∀ j : Nat, j < 3 → iv_ v (m + 7) (j : Int) = -1) : MS v m 0 [] [] (fun _ => []) (fun _ => 0) VL0 [] [] [] := by
  have hm := h.mf.im hC.1
  have z0 : ∀ j : Nat, j < 28 → j ≠ 6 → ∀ i, iv_ v (m + (j + 1)) i = 0 := fun j hj h6 i => by
    rw [hC.2.2 (j + 1) (by omega) (by simp; omega)]
    exact (h.2.2.2.2 j LMI[j] (List.getElem?_eq_getElem hj)).2 i
  have f0 : ∀ i : Int, iv_ v m i = if i = 8 then 3 else 0 := fun i => by rw [hC.2.1 i (by simp)]; exact h.2.2.2.1 i
  have vl : ∀ (j : Nat) vs, VL0[j]? = some vs → j < 3 ∧ vs = (j, (fun _ => True), 0, 0, 0, none, 0) := fun j vs hj => by
    match j, hj with
    | 0, hj => cases hj; exact ⟨by omega, rfl⟩
    | 1, hj => cases hj; exact ⟨by omega, rfl⟩
    | 2, hj => cases hj; exact ⟨by omega, rfl⟩
    | j + 3, hj => simp [VL0] at hj
  have tx0 : Tx [] := ⟨by decide, fun c hc => by simp at hc⟩
  refine ⟨hm, ⟨f0 2, rfl, tx0⟩, ⟨f0 20, rfl, tx0⟩, ?_, ⟨f0 8, by decide, fun j vs hj => ?_⟩, ⟨fun j vs hj => ?_, fun j _ _ => ⟨z0 10 (by omega) (by omega) _, z0 11 (by omega) (by omega) _, z0 12 (by omega) (by omega) _, z0 13 (by omega) (by omega) _⟩⟩, Or.inl ⟨rfl, f0 26, f0 27⟩, ⟨⟨f0 34, rfl, by decide, fun c hc => by simp at hc⟩, ⟨f0 38, by decide, by rw [f0 37]; decide, by rw [f0 37]; decide, by decide⟩, fun j O hj => by simp at hj⟩, fun i hi => by show rng 0; unfold rng; omega⟩
  · exact fun i hi => ⟨z0 1 (by omega) (by omega) _, z0 2 (by omega) (by omega) _, Nat.zero_le _, List.nodup_nil, fun k p hk => by simp at hk⟩
  · obtain ⟨j3, rfl⟩ := vl j vs hj
    exact ⟨j3, Or.inl rfl, Or.inl ⟨j3, hv j j3, rfl, rfl, fun _ => trivial⟩⟩
  · obtain ⟨j3, rfl⟩ := vl j vs hj
    exact ⟨⟨z0 10 (by omega) (by omega) _, Or.inl rfl⟩, ⟨z0 13 (by omega) (by omega) _, by show rng 0; unfold rng; omega⟩, Or.inl ⟨z0 11 (by omega) (by omega) _, rfl⟩, ⟨z0 12 (by omega) (by omega) _, Or.inl rfl⟩⟩
theorem c_minit (l : Launch) (u : Mem) {m : Nat} (km : kd_ u m = 13) (hz : sz_ u = m + 1) (hi : ∀ i, iv_ u m i = 0) : Mt_ l yX13_init cX13_init 2 none 1 28 9091 [aR m] u (qV fun v => MS v m 0 [] [] (fun _ => []) (fun _ => 0) VL0 [] [] [] ∧ iv_ v m 0 = 0 ∧ sz_ v = m + 29 ∧ ∀ a, a < m → Sm u v a) := by
  have h0 : NIn u u m [] 0 := ⟨hz, km, fun a _ => ⟨rfl, rfl, fun _ => rfl, fun _ => rfl⟩, fun i => by rw [hi i]; by_cases y : i = 8 <;> simp [y], fun j q hq => by simp at hq⟩
  refine Mt_of (by decide) (Nat.le_of_ble_eq_true rfl) (fun X ho hX hN hI => ?_)
  subst hX
  have hin : In_ X := hI rfl
  show Z X 0 [some (aR m), none] [] u 0 0
  refine z_wf (fun hw => ?_)
  have hn0 := (hw.1 m (by omega)).2
  refine z_aload_n ho dX13_init_0 rfl ?_
  refine kX13_1 ho hN dX13_init_1 hn0 (Nat.le_of_ble_eq_true rfl) (Nat.le_of_ble_eq_true rfl) ?_
  refine z_aload_n ho dX13_init_4 rfl ?_
  refine z_bipush ho dX13_init_5 rfl ?_
  refine na_I ho dX13_init_7 (by omega) (by omega) (Nat.le_of_ble_eq_true rfl) (Nat.le_of_ble_eq_true rfl) ?_
  refine pX13_7 ho hin dX13_init_9 (h0.k _ _)  ?_
  have hv0 := h0.st 100 8 1 (by decide)
  generalize wR_ (al_ u 100 8) m 1 (sz_ u) = w0 at hv0 ⊢
  refine z_aload_n ho dX13_init_12 rfl ?_
  refine z_iconst ho dX13_init_13 ?_
  refine na_I ho dX13_init_14 (by omega) (by omega) (Nat.le_of_ble_eq_true rfl) (Nat.le_of_ble_eq_true rfl) ?_
  refine pX13_13 ho hin dX13_init_16 (hv0.k _ _)  ?_
  have hv1 := hv0.st 100 3 3 (by decide)
  generalize wR_ (al_ w0 100 3) m 3 (sz_ w0) = w1 at hv1 ⊢
  clear hv0
  refine z_aload_n ho dX13_init_19 rfl ?_
  refine z_iconst ho dX13_init_20 ?_
  refine na_I ho dX13_init_21 (by omega) (by omega) (Nat.le_of_ble_eq_true rfl) (Nat.le_of_ble_eq_true rfl) ?_
  refine pX13_16 ho hin dX13_init_23 (hv1.k _ _)  ?_
  have hv2 := hv1.st 100 3 4 (by decide)
  generalize wR_ (al_ w1 100 3) m 4 (sz_ w1) = w2 at hv2 ⊢
  clear hv1
  refine z_aload_n ho dX13_init_26 rfl ?_
  refine z_sipush ho dX13_init_27 rfl ?_
  refine na_I ho dX13_init_30 (by omega) (by omega) (Nat.le_of_ble_eq_true rfl) (Nat.le_of_ble_eq_true rfl) ?_
  refine pX13_19 ho hin dX13_init_32 (hv2.k _ _)  ?_
  have hv3 := hv2.st 100 1536 5 (by decide)
  generalize wR_ (al_ w2 100 1536) m 5 (sz_ w2) = w3 at hv3 ⊢
  clear hv2
  refine z_aload_n ho dX13_init_35 rfl ?_
  refine z_sipush ho dX13_init_36 rfl ?_
  refine na_I ho dX13_init_39 (by omega) (by omega) (Nat.le_of_ble_eq_true rfl) (Nat.le_of_ble_eq_true rfl) ?_
  refine pX13_22 ho hin dX13_init_41 (hv3.k _ _)  ?_
  have hv4 := hv3.st 100 192 6 (by decide)
  generalize wR_ (al_ w3 100 192) m 6 (sz_ w3) = w4 at hv4 ⊢
  clear hv3
  refine z_aload_n ho dX13_init_44 rfl ?_
  refine z_sipush ho dX13_init_45 rfl ?_
  refine na_I ho dX13_init_48 (by omega) (by omega) (Nat.le_of_ble_eq_true rfl) (Nat.le_of_ble_eq_true rfl) ?_
  refine pX13_25 ho hin dX13_init_50 (hv4.k _ _)  ?_
  have hv5 := hv4.st 100 192 7 (by decide)
  generalize wR_ (al_ w4 100 192) m 7 (sz_ w4) = w5 at hv5 ⊢
  clear hv4
  refine z_aload_n ho dX13_init_53 rfl ?_
  refine z_iconst ho dX13_init_54 ?_
  refine pX13_28 ho dX13_init_55 hv5.2.1  ?_
  have hv6 := hv5.v (x := 3)
  generalize wI_ w5 m 8 3 = w6 at hv6 ⊢
  clear hv5
  refine z_aload_n ho dX13_init_58 rfl ?_
  refine z_bipush ho dX13_init_59 rfl ?_
  refine na_I ho dX13_init_61 (by omega) (by omega) (Nat.le_of_ble_eq_true rfl) (Nat.le_of_ble_eq_true rfl) ?_
  refine pX13_32 ho hin dX13_init_63 (hv6.k _ _)  ?_
  have hv7 := hv6.st 100 12 9 (by decide)
  generalize wR_ (al_ w6 100 12) m 9 (sz_ w6) = w7 at hv7 ⊢
  clear hv6
  refine z_aload_n ho dX13_init_66 rfl ?_
  refine z_bipush ho dX13_init_67 rfl ?_
  refine na_I ho dX13_init_69 (by omega) (by omega) (Nat.le_of_ble_eq_true rfl) (Nat.le_of_ble_eq_true rfl) ?_
  refine pX13_35 ho hin dX13_init_71 (hv7.k _ _)  ?_
  have hv8 := hv7.st 100 12 10 (by decide)
  generalize wR_ (al_ w7 100 12) m 10 (sz_ w7) = w8 at hv8 ⊢
  clear hv7
  refine z_aload_n ho dX13_init_74 rfl ?_
  refine z_bipush ho dX13_init_75 rfl ?_
  refine na_I ho dX13_init_77 (by omega) (by omega) (Nat.le_of_ble_eq_true rfl) (Nat.le_of_ble_eq_true rfl) ?_
  refine pX13_38 ho hin dX13_init_79 (hv8.k _ _)  ?_
  have hv9 := hv8.st 100 12 11 (by decide)
  generalize wR_ (al_ w8 100 12) m 11 (sz_ w8) = w9 at hv9 ⊢
  clear hv8
  refine z_aload_n ho dX13_init_82 rfl ?_
  refine z_bipush ho dX13_init_83 rfl ?_
  refine na_I ho dX13_init_85 (by omega) (by omega) (Nat.le_of_ble_eq_true rfl) (Nat.le_of_ble_eq_true rfl) ?_
  refine pX13_41 ho hin dX13_init_87 (hv9.k _ _)  ?_
  have hv10 := hv9.st 100 96 12 (by decide)
  generalize wR_ (al_ w9 100 96) m 12 (sz_ w9) = w10 at hv10 ⊢
  clear hv9
  refine z_aload_n ho dX13_init_90 rfl ?_
  refine z_bipush ho dX13_init_91 rfl ?_
  refine na_Z ho dX13_init_93 (by omega) (by omega) (Nat.le_of_ble_eq_true rfl) (Nat.le_of_ble_eq_true rfl) ?_
  refine pX13_44 ho hin dX13_init_95 (hv10.k _ _)  ?_
  have hv11 := hv10.st 102 12 13 (by decide)
  generalize wR_ (al_ w10 102 12) m 13 (sz_ w10) = w11 at hv11 ⊢
  clear hv10
  refine z_aload_n ho dX13_init_98 rfl ?_
  refine z_bipush ho dX13_init_99 rfl ?_
  refine na_Z ho dX13_init_101 (by omega) (by omega) (Nat.le_of_ble_eq_true rfl) (Nat.le_of_ble_eq_true rfl) ?_
  refine pX13_48 ho hin dX13_init_103 (hv11.k _ _)  ?_
  have hv12 := hv11.st 102 12 14 (by decide)
  generalize wR_ (al_ w11 102 12) m 14 (sz_ w11) = w12 at hv12 ⊢
  clear hv11
  refine z_aload_n ho dX13_init_106 rfl ?_
  refine z_bipush ho dX13_init_107 rfl ?_
  refine na_Z ho dX13_init_109 (by omega) (by omega) (Nat.le_of_ble_eq_true rfl) (Nat.le_of_ble_eq_true rfl) ?_
  refine pX13_51 ho hin dX13_init_111 (hv12.k _ _)  ?_
  have hv13 := hv12.st 102 12 15 (by decide)
  generalize wR_ (al_ w12 102 12) m 15 (sz_ w12) = w13 at hv13 ⊢
  clear hv12
  refine z_aload_n ho dX13_init_114 rfl ?_
  refine z_bipush ho dX13_init_115 rfl ?_
  refine na_I ho dX13_init_117 (by omega) (by omega) (Nat.le_of_ble_eq_true rfl) (Nat.le_of_ble_eq_true rfl) ?_
  refine pX13_54 ho hin dX13_init_119 (hv13.k _ _)  ?_
  have hv14 := hv13.st 100 12 16 (by decide)
  generalize wR_ (al_ w13 100 12) m 16 (sz_ w13) = w14 at hv14 ⊢
  clear hv13
  refine z_aload_n ho dX13_init_122 rfl ?_
  refine z_bipush ho dX13_init_123 rfl ?_
  refine na_I ho dX13_init_125 (by omega) (by omega) (Nat.le_of_ble_eq_true rfl) (Nat.le_of_ble_eq_true rfl) ?_
  refine pX13_57 ho hin dX13_init_127 (hv14.k _ _)  ?_
  have hv15 := hv14.st 100 12 17 (by decide)
  generalize wR_ (al_ w14 100 12) m 17 (sz_ w14) = w15 at hv15 ⊢
  clear hv14
  refine z_aload_n ho dX13_init_130 rfl ?_
  refine z_bipush ho dX13_init_131 rfl ?_
  refine na_I ho dX13_init_133 (by omega) (by omega) (Nat.le_of_ble_eq_true rfl) (Nat.le_of_ble_eq_true rfl) ?_
  refine pX13_60 ho hin dX13_init_135 (hv15.k _ _)  ?_
  have hv16 := hv15.st 100 96 18 (by decide)
  generalize wR_ (al_ w15 100 96) m 18 (sz_ w15) = w16 at hv16 ⊢
  clear hv15
  refine z_aload_n ho dX13_init_138 rfl ?_
  refine z_bipush ho dX13_init_139 rfl ?_
  refine na_I ho dX13_init_141 (by omega) (by omega) (Nat.le_of_ble_eq_true rfl) (Nat.le_of_ble_eq_true rfl) ?_
  refine pX13_63 ho hin dX13_init_143 (hv16.k _ _)  ?_
  have hv17 := hv16.st 100 8 19 (by decide)
  generalize wR_ (al_ w16 100 8) m 19 (sz_ w16) = w17 at hv17 ⊢
  clear hv16
  refine z_aload_n ho dX13_init_146 rfl ?_
  refine z_sipush ho dX13_init_147 rfl ?_
  refine na_Z ho dX13_init_150 (by omega) (by omega) (Nat.le_of_ble_eq_true rfl) (Nat.le_of_ble_eq_true rfl) ?_
  refine pX13_66 ho hin dX13_init_152 (hv17.k _ _)  ?_
  have hv18 := hv17.st 102 140 21 (by decide)
  generalize wR_ (al_ w17 102 140) m 21 (sz_ w17) = w18 at hv18 ⊢
  clear hv17
  refine z_aload_n ho dX13_init_155 rfl ?_
  refine z_sipush ho dX13_init_156 rfl ?_
  refine na_I ho dX13_init_159 (by omega) (by omega) (Nat.le_of_ble_eq_true rfl) (Nat.le_of_ble_eq_true rfl) ?_
  refine pX13_69 ho hin dX13_init_161 (hv18.k _ _)  ?_
  have hv19 := hv18.st 100 580 23 (by decide)
  generalize wR_ (al_ w18 100 580) m 23 (sz_ w18) = w19 at hv19 ⊢
  clear hv18
  refine z_aload_n ho dX13_init_164 rfl ?_
  refine z_sipush ho dX13_init_165 rfl ?_
  refine na_I ho dX13_init_168 (by omega) (by omega) (Nat.le_of_ble_eq_true rfl) (Nat.le_of_ble_eq_true rfl) ?_
  refine pX13_72 ho hin dX13_init_170 (hv19.k _ _)  ?_
  have hv20 := hv19.st 100 580 24 (by decide)
  generalize wR_ (al_ w19 100 580) m 24 (sz_ w19) = w20 at hv20 ⊢
  clear hv19
  refine z_aload_n ho dX13_init_173 rfl ?_
  refine z_sipush ho dX13_init_174 rfl ?_
  refine na_I ho dX13_init_177 (by omega) (by omega) (Nat.le_of_ble_eq_true rfl) (Nat.le_of_ble_eq_true rfl) ?_
  refine pX13_75 ho hin dX13_init_179 (hv20.k _ _)  ?_
  have hv21 := hv20.st 100 580 25 (by decide)
  generalize wR_ (al_ w20 100 580) m 25 (sz_ w20) = w21 at hv21 ⊢
  clear hv20
  refine z_aload_n ho dX13_init_182 rfl ?_
  refine z_sipush ho dX13_init_183 rfl ?_
  refine na_Z ho dX13_init_186 (by omega) (by omega) (Nat.le_of_ble_eq_true rfl) (Nat.le_of_ble_eq_true rfl) ?_
  refine pX13_78 ho hin dX13_init_188 (hv21.k _ _)  ?_
  have hv22 := hv21.st 102 580 29 (by decide)
  generalize wR_ (al_ w21 102 580) m 29 (sz_ w21) = w22 at hv22 ⊢
  clear hv21
  refine z_aload_n ho dX13_init_191 rfl ?_
  refine z_sipush ho dX13_init_192 rfl ?_
  refine na_I ho dX13_init_195 (by omega) (by omega) (Nat.le_of_ble_eq_true rfl) (Nat.le_of_ble_eq_true rfl) ?_
  refine pX13_81 ho hin dX13_init_197 (hv22.k _ _)  ?_
  have hv23 := hv22.st 100 580 30 (by decide)
  generalize wR_ (al_ w22 100 580) m 30 (sz_ w22) = w23 at hv23 ⊢
  clear hv22
  refine z_aload_n ho dX13_init_200 rfl ?_
  refine z_sipush ho dX13_init_201 rfl ?_
  refine na_I ho dX13_init_204 (by omega) (by omega) (Nat.le_of_ble_eq_true rfl) (Nat.le_of_ble_eq_true rfl) ?_
  refine pX13_84 ho hin dX13_init_206 (hv23.k _ _)  ?_
  have hv24 := hv23.st 100 580 31 (by decide)
  generalize wR_ (al_ w23 100 580) m 31 (sz_ w23) = w24 at hv24 ⊢
  clear hv23
  refine z_aload_n ho dX13_init_209 rfl ?_
  refine z_sipush ho dX13_init_210 rfl ?_
  refine na_I ho dX13_init_213 (by omega) (by omega) (Nat.le_of_ble_eq_true rfl) (Nat.le_of_ble_eq_true rfl) ?_
  refine pX13_87 ho hin dX13_init_215 (hv24.k _ _)  ?_
  have hv25 := hv24.st 100 580 32 (by decide)
  generalize wR_ (al_ w24 100 580) m 32 (sz_ w24) = w25 at hv25 ⊢
  clear hv24
  refine z_aload_n ho dX13_init_218 rfl ?_
  refine z_bipush ho dX13_init_219 rfl ?_
  refine na_I ho dX13_init_221 (by omega) (by omega) (Nat.le_of_ble_eq_true rfl) (Nat.le_of_ble_eq_true rfl) ?_
  refine pX13_90 ho hin dX13_init_223 (hv25.k _ _)  ?_
  have hv26 := hv25.st 100 120 33 (by decide)
  generalize wR_ (al_ w25 100 120) m 33 (sz_ w25) = w26 at hv26 ⊢
  clear hv25
  refine z_aload_n ho dX13_init_226 rfl ?_
  refine z_sipush ho dX13_init_227 rfl ?_
  refine na_I ho dX13_init_230 (by omega) (by omega) (Nat.le_of_ble_eq_true rfl) (Nat.le_of_ble_eq_true rfl) ?_
  refine pX13_93 ho hin dX13_init_232 (hv26.k _ _)  ?_
  have hv27 := hv26.st 100 2520 35 (by decide)
  generalize wR_ (al_ w26 100 2520) m 35 (sz_ w26) = w27 at hv27 ⊢
  clear hv26
  refine z_aload_n ho dX13_init_235 rfl ?_
  refine z_bipush ho dX13_init_236 rfl ?_
  refine na_I ho dX13_init_238 (by omega) (by omega) (Nat.le_of_ble_eq_true rfl) (Nat.le_of_ble_eq_true rfl) ?_
  refine pX13_96 ho hin dX13_init_240 (hv27.k _ _)  ?_
  have hv28 := hv27.st 100 21 36 (by decide)
  generalize wR_ (al_ w27 100 21) m 36 (sz_ w27) = w28 at hv28 ⊢
  clear hv27
  have hL : NIn u w28 m LMI 3 := hv28
  clear hv28
  have hm := hL.mf
  refine z_iconst ho dX13_init_243 ?_
  refine z_istore_n ho dX13_init_244 (Nat.le_of_ble_eq_true rfl) rfl ?_
  refine z_iload_n ho dX13_init_245 rfl ?_
  refine z_iconst ho dX13_init_246 ?_
  refine z_icmp_ge (tgt := 263) ho dX13_init_247 (by decide) (by unfold rng; omega) (by unfold rng; omega) (fun c247 => ?_) (fun c247 => ?_)
  · exact absurd c247 (by decide)
  · 
    refine z_aload_n ho dX13_init_250 rfl ?_
    refine gX13_32 ho dX13_init_251 hm.1 (mget hm.r9 ?_)
    refine z_iload_n ho dX13_init_254 rfl ?_
    refine z_iconst ho dX13_init_255 ?_
    refine z_iast ho dX13_init_256 hm.k7 (by omega) (hm.t7 (by omega)) ?_
    refine z_iinc ho dX13_init_257 rfl rfl ?_
    refine z_goto (tgt := 245) ho dX13_init_260 (by decide) ?_
    refine z_iload_n ho dX13_init_245 rfl ?_
    refine z_iconst ho dX13_init_246 ?_
    refine z_icmp_ge (tgt := 263) ho dX13_init_247 (by decide) (by unfold rng; omega) (by unfold rng; omega) (fun c247 => ?_) (fun c247 => ?_)
    · exact absurd c247 (by decide)
    · 
      refine z_aload_n ho dX13_init_250 rfl ?_
      refine gX13_32 ho dX13_init_251 hm.1 (mget hm.r9 ?_)
      refine z_iload_n ho dX13_init_254 rfl ?_
      refine z_iconst ho dX13_init_255 ?_
      refine z_iast ho dX13_init_256 hm.k7 (by omega) (hm.t7 (by omega)) ?_
      refine z_iinc ho dX13_init_257 rfl rfl ?_
      refine z_goto (tgt := 245) ho dX13_init_260 (by decide) ?_
      refine z_iload_n ho dX13_init_245 rfl ?_
      refine z_iconst ho dX13_init_246 ?_
      refine z_icmp_ge (tgt := 263) ho dX13_init_247 (by decide) (by unfold rng; omega) (by unfold rng; omega) (fun c247 => ?_) (fun c247 => ?_)
      · exact absurd c247 (by decide)
      · 
        refine z_aload_n ho dX13_init_250 rfl ?_
        refine gX13_32 ho dX13_init_251 hm.1 (mget hm.r9 ?_)
        refine z_iload_n ho dX13_init_254 rfl ?_
        refine z_iconst ho dX13_init_255 ?_
        refine z_iast ho dX13_init_256 hm.k7 (by omega) (hm.t7 (by omega)) ?_
        refine z_iinc ho dX13_init_257 rfl rfl ?_
        refine z_goto (tgt := 245) ho dX13_init_260 (by decide) ?_
        refine z_iload_n ho dX13_init_245 rfl ?_
        refine z_iconst ho dX13_init_246 ?_
        refine z_icmp_ge (tgt := 263) ho dX13_init_247 (by decide) (by unfold rng; omega) (by unfold rng; omega) (fun c247 => ?_) (fun c247 => ?_)
        · 
          refine r_V ho dX13_init_263 (Nat.le_of_ble_eq_true rfl) (Nat.le_of_ble_eq_true rfl) ?_
          have hC : Cg m w28 (wI_ (wI_ (wI_ w28 (m + 7) 0 (-1)) (m + 7) (0 + 1) (-1)) (m + 7) (0 + 1 + 1) (-1)) [] [7] := (((Cg.rf m _ _ _).a 7 _ _ (by decide) (by decide) (by decide)).a 7 _ _ (by decide) (by decide) (by decide)).a 7 _ _ (by decide) (by decide) (by decide)
          refine ⟨hL.ms hC (fun j hj => ?_), ?_, hL.1, fun a ha => ?_⟩
          · match j, hj with
            | 0, _ => simp [iv_wI]
            | 1, _ => simp [iv_wI]
            | 2, _ => simp [iv_wI]
          · rw [hC.2.1 0 (by decide)]; exact hL.2.2.2.1 0
          · obtain ⟨s1, s2, s3, s4⟩ := hL.2.2.1 a ha
            exact ⟨s1, s2, fun i => by rw [ivf (by omega), ivf (by omega), ivf (by omega)]; exact s3 i, s4⟩
        · omega
