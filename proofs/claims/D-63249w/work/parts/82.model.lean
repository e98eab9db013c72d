set_option maxRecDepth 100000
/-! ===== the model: its cells ===== -/
/-- kinds and lengths of its arrays; its fields -/
def MF (u : Mem) (m : Nat) : Prop := kd_ u m = 13 ∧ (rv_ u m 1 = m + 1 ∧ kd_ u (m + 1) = 100 ∧ ln_ u (m + 1) = 8) ∧ (rv_ u m 3 = m + 2 ∧ kd_ u (m + 2) = 100 ∧ ln_ u (m + 2) = 3) ∧ (rv_ u m 4 = m + 3 ∧ kd_ u (m + 3) = 100 ∧ ln_ u (m + 3) = 3) ∧ (rv_ u m 5 = m + 4 ∧ kd_ u (m + 4) = 100 ∧ ln_ u (m + 4) = 1536) ∧ (rv_ u m 6 = m + 5 ∧ kd_ u (m + 5) = 100 ∧ ln_ u (m + 5) = 192) ∧ (rv_ u m 7 = m + 6 ∧ kd_ u (m + 6) = 100 ∧ ln_ u (m + 6) = 192) ∧ (rv_ u m 9 = m + 7 ∧ kd_ u (m + 7) = 100 ∧ ln_ u (m + 7) = 12) ∧ (rv_ u m 10 = m + 8 ∧ kd_ u (m + 8) = 100 ∧ ln_ u (m + 8) = 12) ∧ (rv_ u m 11 = m + 9 ∧ kd_ u (m + 9) = 100 ∧ ln_ u (m + 9) = 12) ∧ (rv_ u m 12 = m + 10 ∧ kd_ u (m + 10) = 100 ∧ ln_ u (m + 10) = 96) ∧ (rv_ u m 13 = m + 11 ∧ kd_ u (m + 11) = 102 ∧ ln_ u (m + 11) = 12) ∧ (rv_ u m 14 = m + 12 ∧ kd_ u (m + 12) = 102 ∧ ln_ u (m + 12) = 12) ∧ (rv_ u m 15 = m + 13 ∧ kd_ u (m + 13) = 102 ∧ ln_ u (m + 13) = 12) ∧ (rv_ u m 16 = m + 14 ∧ kd_ u (m + 14) = 100 ∧ ln_ u (m + 14) = 12) ∧ (rv_ u m 17 = m + 15 ∧ kd_ u (m + 15) = 100 ∧ ln_ u (m + 15) = 12) ∧ (rv_ u m 18 = m + 16 ∧ kd_ u (m + 16) = 100 ∧ ln_ u (m + 16) = 96) ∧ (rv_ u m 19 = m + 17 ∧ kd_ u (m + 17) = 100 ∧ ln_ u (m + 17) = 8) ∧ (rv_ u m 21 = m + 18 ∧ kd_ u (m + 18) = 102 ∧ ln_ u (m + 18) = 140) ∧ (rv_ u m 23 = m + 19 ∧ kd_ u (m + 19) = 100 ∧ ln_ u (m + 19) = 580) ∧ (rv_ u m 24 = m + 20 ∧ kd_ u (m + 20) = 100 ∧ ln_ u (m + 20) = 580) ∧ (rv_ u m 25 = m + 21 ∧ kd_ u (m + 21) = 100 ∧ ln_ u (m + 21) = 580) ∧ (rv_ u m 29 = m + 22 ∧ kd_ u (m + 22) = 102 ∧ ln_ u (m + 22) = 580) ∧ (rv_ u m 30 = m + 23 ∧ kd_ u (m + 23) = 100 ∧ ln_ u (m + 23) = 580) ∧ (rv_ u m 31 = m + 24 ∧ kd_ u (m + 24) = 100 ∧ ln_ u (m + 24) = 580) ∧ (rv_ u m 32 = m + 25 ∧ kd_ u (m + 25) = 100 ∧ ln_ u (m + 25) = 580) ∧ (rv_ u m 33 = m + 26 ∧ kd_ u (m + 26) = 100 ∧ ln_ u (m + 26) = 120) ∧ (rv_ u m 35 = m + 27 ∧ kd_ u (m + 27) = 100 ∧ ln_ u (m + 27) = 2520) ∧ (rv_ u m 36 = m + 28 ∧ kd_ u (m + 28) = 100 ∧ ln_ u (m + 28) = 21)
theorem MF.r1 {u : Mem} {m : Nat} (h : MF u m) : rv_ u m 1 = m + 1 := h.2.1.1
theorem MF.k1 {u : Mem} {m : Nat} (h : MF u m) : kd_ u (m + 1) = 100 := h.2.1.2.1
theorem MF.l1 {u : Mem} {m : Nat} (h : MF u m) : ln_ u (m + 1) = 8 := h.2.1.2.2
theorem MF.t1 {u : Mem} {m : Nat} {i : Int} (h : MF u m) (hi : i < 8) : i < ln_ u (m + 1) := by rw [h.l1]; exact hi
theorem MF.r3 {u : Mem} {m : Nat} (h : MF u m) : rv_ u m 3 = m + 2 := h.2.2.1.1
theorem MF.k2 {u : Mem} {m : Nat} (h : MF u m) : kd_ u (m + 2) = 100 := h.2.2.1.2.1
theorem MF.l2 {u : Mem} {m : Nat} (h : MF u m) : ln_ u (m + 2) = 3 := h.2.2.1.2.2
theorem MF.t2 {u : Mem} {m : Nat} {i : Int} (h : MF u m) (hi : i < 3) : i < ln_ u (m + 2) := by rw [h.l2]; exact hi
theorem MF.r4 {u : Mem} {m : Nat} (h : MF u m) : rv_ u m 4 = m + 3 := h.2.2.2.1.1
theorem MF.k3 {u : Mem} {m : Nat} (h : MF u m) : kd_ u (m + 3) = 100 := h.2.2.2.1.2.1
theorem MF.l3 {u : Mem} {m : Nat} (h : MF u m) : ln_ u (m + 3) = 3 := h.2.2.2.1.2.2
theorem MF.t3 {u : Mem} {m : Nat} {i : Int} (h : MF u m) (hi : i < 3) : i < ln_ u (m + 3) := by rw [h.l3]; exact hi
theorem MF.r5 {u : Mem} {m : Nat} (h : MF u m) : rv_ u m 5 = m + 4 := h.2.2.2.2.1.1
theorem MF.k4 {u : Mem} {m : Nat} (h : MF u m) : kd_ u (m + 4) = 100 := h.2.2.2.2.1.2.1
theorem MF.l4 {u : Mem} {m : Nat} (h : MF u m) : ln_ u (m + 4) = 1536 := h.2.2.2.2.1.2.2
theorem MF.t4 {u : Mem} {m : Nat} {i : Int} (h : MF u m) (hi : i < 1536) : i < ln_ u (m + 4) := by rw [h.l4]; exact hi
theorem MF.r6 {u : Mem} {m : Nat} (h : MF u m) : rv_ u m 6 = m + 5 := h.2.2.2.2.2.1.1
theorem MF.k5 {u : Mem} {m : Nat} (h : MF u m) : kd_ u (m + 5) = 100 := h.2.2.2.2.2.1.2.1
theorem MF.l5 {u : Mem} {m : Nat} (h : MF u m) : ln_ u (m + 5) = 192 := h.2.2.2.2.2.1.2.2
theorem MF.t5 {u : Mem} {m : Nat} {i : Int} (h : MF u m) (hi : i < 192) : i < ln_ u (m + 5) := by rw [h.l5]; exact hi
theorem MF.r7 {u : Mem} {m : Nat} (h : MF u m) : rv_ u m 7 = m + 6 := h.2.2.2.2.2.2.1.1
theorem MF.k6 {u : Mem} {m : Nat} (h : MF u m) : kd_ u (m + 6) = 100 := h.2.2.2.2.2.2.1.2.1
theorem MF.l6 {u : Mem} {m : Nat} (h : MF u m) : ln_ u (m + 6) = 192 := h.2.2.2.2.2.2.1.2.2
theorem MF.t6 {u : Mem} {m : Nat} {i : Int} (h : MF u m) (hi : i < 192) : i < ln_ u (m + 6) := by rw [h.l6]; exact hi
theorem MF.r9 {u : Mem} {m : Nat} (h : MF u m) : rv_ u m 9 = m + 7 := h.2.2.2.2.2.2.2.1.1
theorem MF.k7 {u : Mem} {m : Nat} (h : MF u m) : kd_ u (m + 7) = 100 := h.2.2.2.2.2.2.2.1.2.1
theorem MF.l7 {u : Mem} {m : Nat} (h : MF u m) : ln_ u (m + 7) = 12 := h.2.2.2.2.2.2.2.1.2.2
theorem MF.t7 {u : Mem} {m : Nat} {i : Int} (h : MF u m) (hi : i < 12) : i < ln_ u (m + 7) := by rw [h.l7]; exact hi
theorem MF.r10 {u : Mem} {m : Nat} (h : MF u m) : rv_ u m 10 = m + 8 := h.2.2.2.2.2.2.2.2.1.1
theorem MF.k8 {u : Mem} {m : Nat} (h : MF u m) : kd_ u (m + 8) = 100 := h.2.2.2.2.2.2.2.2.1.2.1
theorem MF.l8 {u : Mem} {m : Nat} (h : MF u m) : ln_ u (m + 8) = 12 := h.2.2.2.2.2.2.2.2.1.2.2
theorem MF.t8 {u : Mem} {m : Nat} {i : Int} (h : MF u m) (hi : i < 12) : i < ln_ u (m + 8) := by rw [h.l8]; exact hi
theorem MF.r11 {u : Mem} {m : Nat} (h : MF u m) : rv_ u m 11 = m + 9 := h.2.2.2.2.2.2.2.2.2.1.1
theorem MF.k9 {u : Mem} {m : Nat} (h : MF u m) : kd_ u (m + 9) = 100 := h.2.2.2.2.2.2.2.2.2.1.2.1
theorem MF.l9 {u : Mem} {m : Nat} (h : MF u m) : ln_ u (m + 9) = 12 := h.2.2.2.2.2.2.2.2.2.1.2.2
theorem MF.t9 {u : Mem} {m : Nat} {i : Int} (h : MF u m) (hi : i < 12) : i < ln_ u (m + 9) := by rw [h.l9]; exact hi
theorem MF.r12 {u : Mem} {m : Nat} (h : MF u m) : rv_ u m 12 = m + 10 := h.2.2.2.2.2.2.2.2.2.2.1.1
theorem MF.k10 {u : Mem} {m : Nat} (h : MF u m) : kd_ u (m + 10) = 100 := h.2.2.2.2.2.2.2.2.2.2.1.2.1
theorem MF.l10 {u : Mem} {m : Nat} (h : MF u m) : ln_ u (m + 10) = 96 := h.2.2.2.2.2.2.2.2.2.2.1.2.2
theorem MF.t10 {u : Mem} {m : Nat} {i : Int} (h : MF u m) (hi : i < 96) : i < ln_ u (m + 10) := by rw [h.l10]; exact hi
theorem MF.r13 {u : Mem} {m : Nat} (h : MF u m) : rv_ u m 13 = m + 11 := h.2.2.2.2.2.2.2.2.2.2.2.1.1
theorem MF.k11 {u : Mem} {m : Nat} (h : MF u m) : kd_ u (m + 11) = 102 := h.2.2.2.2.2.2.2.2.2.2.2.1.2.1
theorem MF.l11 {u : Mem} {m : Nat} (h : MF u m) : ln_ u (m + 11) = 12 := h.2.2.2.2.2.2.2.2.2.2.2.1.2.2
theorem MF.t11 {u : Mem} {m : Nat} {i : Int} (h : MF u m) (hi : i < 12) : i < ln_ u (m + 11) := by rw [h.l11]; exact hi
theorem MF.r14 {u : Mem} {m : Nat} (h : MF u m) : rv_ u m 14 = m + 12 := h.2.2.2.2.2.2.2.2.2.2.2.2.1.1
theorem MF.k12 {u : Mem} {m : Nat} (h : MF u m) : kd_ u (m + 12) = 102 := h.2.2.2.2.2.2.2.2.2.2.2.2.1.2.1
theorem MF.l12 {u : Mem} {m : Nat} (h : MF u m) : ln_ u (m + 12) = 12 := h.2.2.2.2.2.2.2.2.2.2.2.2.1.2.2
theorem MF.t12 {u : Mem} {m : Nat} {i : Int} (h : MF u m) (hi : i < 12) : i < ln_ u (m + 12) := by rw [h.l12]; exact hi
theorem MF.r15 {u : Mem} {m : Nat} (h : MF u m) : rv_ u m 15 = m + 13 := h.2.2.2.2.2.2.2.2.2.2.2.2.2.1.1
theorem MF.k13 {u : Mem} {m : Nat} (h : MF u m) : kd_ u (m + 13) = 102 := h.2.2.2.2.2.2.2.2.2.2.2.2.2.1.2.1
theorem MF.l13 {u : Mem} {m : Nat} (h : MF u m) : ln_ u (m + 13) = 12 := h.2.2.2.2.2.2.2.2.2.2.2.2.2.1.2.2
theorem MF.t13 {u : Mem} {m : Nat} {i : Int} (h : MF u m) (hi : i < 12) : i < ln_ u (m + 13) := by rw [h.l13]; exact hi
theorem MF.r16 {u : Mem} {m : Nat} (h : MF u m) : rv_ u m 16 = m + 14 := h.2.2.2.2.2.2.2.2.2.2.2.2.2.2.1.1
theorem MF.k14 {u : Mem} {m : Nat} (h : MF u m) : kd_ u (m + 14) = 100 := h.2.2.2.2.2.2.2.2.2.2.2.2.2.2.1.2.1
theorem MF.l14 {u : Mem} {m : Nat} (h : MF u m) : ln_ u (m + 14) = 12 := h.2.2.2.2.2.2.2.2.2.2.2.2.2.2.1.2.2
theorem MF.t14 {u : Mem} {m : Nat} {i : Int} (h : MF u m) (hi : i < 12) : i < ln_ u (m + 14) := by rw [h.l14]; exact hi
theorem MF.r17 {u : Mem} {m : Nat} (h : MF u m) : rv_ u m 17 = m + 15 := h.2.2.2.2.2.2.2.2.2.2.2.2.2.2.2.1.1
theorem MF.k15 {u : Mem} {m : Nat} (h : MF u m) : kd_ u (m + 15) = 100 := h.2.2.2.2.2.2.2.2.2.2.2.2.2.2.2.1.2.1
theorem MF.l15 {u : Mem} {m : Nat} (h : MF u m) : ln_ u (m + 15) = 12 := h.2.2.2.2.2.2.2.2.2.2.2.2.2.2.2.1.2.2
theorem MF.t15 {u : Mem} {m : Nat} {i : Int} (h : MF u m) (hi : i < 12) : i < ln_ u (m + 15) := by rw [h.l15]; exact hi
theorem MF.r18 {u : Mem} {m : Nat} (h : MF u m) : rv_ u m 18 = m + 16 := h.2.2.2.2.2.2.2.2.2.2.2.2.2.2.2.2.1.1
theorem MF.k16 {u : Mem} {m : Nat} (h : MF u m) : kd_ u (m + 16) = 100 := h.2.2.2.2.2.2.2.2.2.2.2.2.2.2.2.2.1.2.1
theorem MF.l16 {u : Mem} {m : Nat} (h : MF u m) : ln_ u (m + 16) = 96 := h.2.2.2.2.2.2.2.2.2.2.2.2.2.2.2.2.1.2.2
theorem MF.t16 {u : Mem} {m : Nat} {i : Int} (h : MF u m) (hi : i < 96) : i < ln_ u (m + 16) := by rw [h.l16]; exact hi
theorem MF.r19 {u : Mem} {m : Nat} (h : MF u m) : rv_ u m 19 = m + 17 := h.2.2.2.2.2.2.2.2.2.2.2.2.2.2.2.2.2.1.1
theorem MF.k17 {u : Mem} {m : Nat} (h : MF u m) : kd_ u (m + 17) = 100 := h.2.2.2.2.2.2.2.2.2.2.2.2.2.2.2.2.2.1.2.1
theorem MF.l17 {u : Mem} {m : Nat} (h : MF u m) : ln_ u (m + 17) = 8 := h.2.2.2.2.2.2.2.2.2.2.2.2.2.2.2.2.2.1.2.2
theorem MF.t17 {u : Mem} {m : Nat} {i : Int} (h : MF u m) (hi : i < 8) : i < ln_ u (m + 17) := by rw [h.l17]; exact hi
theorem MF.r21 {u : Mem} {m : Nat} (h : MF u m) : rv_ u m 21 = m + 18 := h.2.2.2.2.2.2.2.2.2.2.2.2.2.2.2.2.2.2.1.1
theorem MF.k18 {u : Mem} {m : Nat} (h : MF u m) : kd_ u (m + 18) = 102 := h.2.2.2.2.2.2.2.2.2.2.2.2.2.2.2.2.2.2.1.2.1
theorem MF.l18 {u : Mem} {m : Nat} (h : MF u m) : ln_ u (m + 18) = 140 := h.2.2.2.2.2.2.2.2.2.2.2.2.2.2.2.2.2.2.1.2.2
theorem MF.t18 {u : Mem} {m : Nat} {i : Int} (h : MF u m) (hi : i < 140) : i < ln_ u (m + 18) := by rw [h.l18]; exact hi
theorem MF.r23 {u : Mem} {m : Nat} (h : MF u m) : rv_ u m 23 = m + 19 := h.2.2.2.2.2.2.2.2.2.2.2.2.2.2.2.2.2.2.2.1.1
theorem MF.k19 {u : Mem} {m : Nat} (h : MF u m) : kd_ u (m + 19) = 100 := h.2.2.2.2.2.2.2.2.2.2.2.2.2.2.2.2.2.2.2.1.2.1
theorem MF.l19 {u : Mem} {m : Nat} (h : MF u m) : ln_ u (m + 19) = 580 := h.2.2.2.2.2.2.2.2.2.2.2.2.2.2.2.2.2.2.2.1.2.2
theorem MF.t19 {u : Mem} {m : Nat} {i : Int} (h : MF u m) (hi : i < 580) : i < ln_ u (m + 19) := by rw [h.l19]; exact hi
theorem MF.r24 {u : Mem} {m : Nat} (h : MF u m) : rv_ u m 24 = m + 20 := h.2.2.2.2.2.2.2.2.2.2.2.2.2.2.2.2.2.2.2.2.1.1
theorem MF.k20 {u : Mem} {m : Nat} (h : MF u m) : kd_ u (m + 20) = 100 := h.2.2.2.2.2.2.2.2.2.2.2.2.2.2.2.2.2.2.2.2.1.2.1
theorem MF.l20 {u : Mem} {m : Nat} (h : MF u m) : ln_ u (m + 20) = 580 := h.2.2.2.2.2.2.2.2.2.2.2.2.2.2.2.2.2.2.2.2.1.2.2
theorem MF.t20 {u : Mem} {m : Nat} {i : Int} (h : MF u m) (hi : i < 580) : i < ln_ u (m + 20) := by rw [h.l20]; exact hi
theorem MF.r25 {u : Mem} {m : Nat} (h : MF u m) : rv_ u m 25 = m + 21 := h.2.2.2.2.2.2.2.2.2.2.2.2.2.2.2.2.2.2.2.2.2.1.1
theorem MF.k21 {u : Mem} {m : Nat} (h : MF u m) : kd_ u (m + 21) = 100 := h.2.2.2.2.2.2.2.2.2.2.2.2.2.2.2.2.2.2.2.2.2.1.2.1
theorem MF.l21 {u : Mem} {m : Nat} (h : MF u m) : ln_ u (m + 21) = 580 := h.2.2.2.2.2.2.2.2.2.2.2.2.2.2.2.2.2.2.2.2.2.1.2.2
theorem MF.t21 {u : Mem} {m : Nat} {i : Int} (h : MF u m) (hi : i < 580) : i < ln_ u (m + 21) := by rw [h.l21]; exact hi
theorem MF.r29 {u : Mem} {m : Nat} (h : MF u m) : rv_ u m 29 = m + 22 := h.2.2.2.2.2.2.2.2.2.2.2.2.2.2.2.2.2.2.2.2.2.2.1.1
theorem MF.k22 {u : Mem} {m : Nat} (h : MF u m) : kd_ u (m + 22) = 102 := h.2.2.2.2.2.2.2.2.2.2.2.2.2.2.2.2.2.2.2.2.2.2.1.2.1
theorem MF.l22 {u : Mem} {m : Nat} (h : MF u m) : ln_ u (m + 22) = 580 := h.2.2.2.2.2.2.2.2.2.2.2.2.2.2.2.2.2.2.2.2.2.2.1.2.2
theorem MF.t22 {u : Mem} {m : Nat} {i : Int} (h : MF u m) (hi : i < 580) : i < ln_ u (m + 22) := by rw [h.l22]; exact hi
theorem MF.r30 {u : Mem} {m : Nat} (h : MF u m) : rv_ u m 30 = m + 23 := h.2.2.2.2.2.2.2.2.2.2.2.2.2.2.2.2.2.2.2.2.2.2.2.1.1
theorem MF.k23 {u : Mem} {m : Nat} (h : MF u m) : kd_ u (m + 23) = 100 := h.2.2.2.2.2.2.2.2.2.2.2.2.2.2.2.2.2.2.2.2.2.2.2.1.2.1
theorem MF.l23 {u : Mem} {m : Nat} (h : MF u m) : ln_ u (m + 23) = 580 := h.2.2.2.2.2.2.2.2.2.2.2.2.2.2.2.2.2.2.2.2.2.2.2.1.2.2
theorem MF.t23 {u : Mem} {m : Nat} {i : Int} (h : MF u m) (hi : i < 580) : i < ln_ u (m + 23) := by rw [h.l23]; exact hi
theorem MF.r31 {u : Mem} {m : Nat} (h : MF u m) : rv_ u m 31 = m + 24 := h.2.2.2.2.2.2.2.2.2.2.2.2.2.2.2.2.2.2.2.2.2.2.2.2.1.1
theorem MF.k24 {u : Mem} {m : Nat} (h : MF u m) : kd_ u (m + 24) = 100 := h.2.2.2.2.2.2.2.2.2.2.2.2.2.2.2.2.2.2.2.2.2.2.2.2.1.2.1
theorem MF.l24 {u : Mem} {m : Nat} (h : MF u m) : ln_ u (m + 24) = 580 := h.2.2.2.2.2.2.2.2.2.2.2.2.2.2.2.2.2.2.2.2.2.2.2.2.1.2.2
theorem MF.t24 {u : Mem} {m : Nat} {i : Int} (h : MF u m) (hi : i < 580) : i < ln_ u (m + 24) := by rw [h.l24]; exact hi
theorem MF.r32 {u : Mem} {m : Nat} (h : MF u m) : rv_ u m 32 = m + 25 := h.2.2.2.2.2.2.2.2.2.2.2.2.2.2.2.2.2.2.2.2.2.2.2.2.2.1.1
theorem MF.k25 {u : Mem} {m : Nat} (h : MF u m) : kd_ u (m + 25) = 100 := h.2.2.2.2.2.2.2.2.2.2.2.2.2.2.2.2.2.2.2.2.2.2.2.2.2.1.2.1
theorem MF.l25 {u : Mem} {m : Nat} (h : MF u m) : ln_ u (m + 25) = 580 := h.2.2.2.2.2.2.2.2.2.2.2.2.2.2.2.2.2.2.2.2.2.2.2.2.2.1.2.2
theorem MF.t25 {u : Mem} {m : Nat} {i : Int} (h : MF u m) (hi : i < 580) : i < ln_ u (m + 25) := by rw [h.l25]; exact hi
theorem MF.r33 {u : Mem} {m : Nat} (h : MF u m) : rv_ u m 33 = m + 26 := h.2.2.2.2.2.2.2.2.2.2.2.2.2.2.2.2.2.2.2.2.2.2.2.2.2.2.1.1
theorem MF.k26 {u : Mem} {m : Nat} (h : MF u m) : kd_ u (m + 26) = 100 := h.2.2.2.2.2.2.2.2.2.2.2.2.2.2.2.2.2.2.2.2.2.2.2.2.2.2.1.2.1
theorem MF.l26 {u : Mem} {m : Nat} (h : MF u m) : ln_ u (m + 26) = 120 := h.2.2.2.2.2.2.2.2.2.2.2.2.2.2.2.2.2.2.2.2.2.2.2.2.2.2.1.2.2
theorem MF.t26 {u : Mem} {m : Nat} {i : Int} (h : MF u m) (hi : i < 120) : i < ln_ u (m + 26) := by rw [h.l26]; exact hi
theorem MF.r35 {u : Mem} {m : Nat} (h : MF u m) : rv_ u m 35 = m + 27 := h.2.2.2.2.2.2.2.2.2.2.2.2.2.2.2.2.2.2.2.2.2.2.2.2.2.2.2.1.1
theorem MF.k27 {u : Mem} {m : Nat} (h : MF u m) : kd_ u (m + 27) = 100 := h.2.2.2.2.2.2.2.2.2.2.2.2.2.2.2.2.2.2.2.2.2.2.2.2.2.2.2.1.2.1
theorem MF.l27 {u : Mem} {m : Nat} (h : MF u m) : ln_ u (m + 27) = 2520 := h.2.2.2.2.2.2.2.2.2.2.2.2.2.2.2.2.2.2.2.2.2.2.2.2.2.2.2.1.2.2
theorem MF.t27 {u : Mem} {m : Nat} {i : Int} (h : MF u m) (hi : i < 2520) : i < ln_ u (m + 27) := by rw [h.l27]; exact hi
theorem MF.r36 {u : Mem} {m : Nat} (h : MF u m) : rv_ u m 36 = m + 28 := h.2.2.2.2.2.2.2.2.2.2.2.2.2.2.2.2.2.2.2.2.2.2.2.2.2.2.2.2.1
theorem MF.k28 {u : Mem} {m : Nat} (h : MF u m) : kd_ u (m + 28) = 100 := h.2.2.2.2.2.2.2.2.2.2.2.2.2.2.2.2.2.2.2.2.2.2.2.2.2.2.2.2.2.1
theorem MF.l28 {u : Mem} {m : Nat} (h : MF u m) : ln_ u (m + 28) = 21 := h.2.2.2.2.2.2.2.2.2.2.2.2.2.2.2.2.2.2.2.2.2.2.2.2.2.2.2.2.2.2
theorem MF.t28 {u : Mem} {m : Nat} {i : Int} (h : MF u m) (hi : i < 21) : i < ln_ u (m + 28) := by rw [h.l28]; exact hi
theorem mget {X : Ctx_} {pc : Nat} {ls : List (Option AV)} {st : List AV} {u : Mem} {cu su a b : Nat} (e : a = b) (k : Z X pc ls (aR b :: st) u cu su) : Z X pc ls (aR a :: st) u cu su := by rw [e]; exact k
/-- only whole numbers of the model's cells change -/
def Im (m : Nat) (u v : Mem) : Prop := sz_ v = sz_ u ∧ (∀ a, kd_ v a = kd_ u a ∧ ln_ v a = ln_ u a) ∧ (∀ a i, rv_ v a i = rv_ u a i) ∧ ∀ a, (a < m ∨ m + 29 ≤ a) → ∀ i, iv_ v a i = iv_ u a i
theorem Im.rf (m : Nat) (u : Mem) : Im m u u := ⟨rfl, fun _ => ⟨rfl, rfl⟩, fun _ _ => rfl, fun _ _ _ => rfl⟩
theorem Im.tr {m : Nat} {u v w : Mem} (h : Im m u v) (g : Im m v w) : Im m u w := ⟨g.1.trans h.1, fun a => ⟨(g.2.1 a).1.trans (h.2.1 a).1, (g.2.1 a).2.trans (h.2.1 a).2⟩, fun a i => (g.2.2.1 a i).trans (h.2.2.1 a i), fun a ha i => (g.2.2.2 a ha i).trans (h.2.2.2 a ha i)⟩
theorem Im.w {m : Nat} {u v : Mem} (h : Im m u v) (j : Nat) (hj : j < 29) (i x : Int) : Im m u (wI_ v (m + j) i x) := ⟨h.1, h.2.1, h.2.2.1, fun a ha k => by rw [iv_wI, if_neg (by omega)]; exact h.2.2.2 a ha k⟩
theorem Im.w0 {m : Nat} {u v : Mem} (h : Im m u v) (i x : Int) : Im m u (wI_ v m i x) := h.w 0 (by decide) i x
theorem MF.im {m : Nat} {u v : Mem} (h : MF u m) (g : Im m u v) : MF v m := by
  unfold MF at h ⊢
  simp only [fun a => (g.2.1 a).1, fun a => (g.2.1 a).2, g.2.2.1]
  exact h
/-- another cell's numbers stay -/
theorem ivf {u : Mem} {a b : Nat} {i x : Int} (h : b ≠ a) : iv_ (wI_ u a i x) b = iv_ u b := funext fun j => by rw [iv_wI, if_neg (fun z => h z.1)]
/-- a text of n characters from i on -/
def sub_ (f : Int → Int) (i : Int) (n : Nat) : List Int := seg (fun j => f (i + j)) n
theorem sub_len (f : Int → Int) (i : Int) (n : Nat) : (sub_ f i n).length = n := seg_len _ _
theorem sub_get {f : Int → Int} {i : Int} {n j : Nat} (h : j < n) : (sub_ f i n)[j]? = some (f (i + j)) := seg_get h
theorem sub_ext {f g : Int → Int} {i k : Int} {n : Nat} (h : ∀ j : Int, 0 ≤ j → j < n → f (i + j) = g (k + j)) : sub_ f i n = sub_ g k n := seg_ext h
theorem sub_snoc (f : Int → Int) (i : Int) (n : Nat) : sub_ f i (n + 1) = sub_ f i n ++ [f (i + n)] := by unfold sub_ seg; rw [List.range_succ, List.map_append]; rfl
theorem sub_take (f : Int → Int) (i : Int) {n k : Nat} (h : k ≤ n) : (sub_ f i n).take k = sub_ f i k := by
  unfold sub_ seg
  rw [← List.map_take, List.take_range, Nat.min_eq_left h]
theorem sub_drop (f : Int → Int) (i : Int) {n k : Nat} (h : k ≤ n) : (sub_ f i n).drop k = sub_ f (i + k) (n - k) := by
  apply List.ext_getElem?
  intro j
  rw [List.getElem?_drop]
  by_cases q : j < n - k
  · rw [sub_get q, sub_get (by omega)]
    congr 2
    omega
  · rw [List.getElem?_eq_none (by rw [sub_len]; omega), List.getElem?_eq_none (by rw [sub_len]; omega)]
