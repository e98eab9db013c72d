set_option maxRecDepth 100000
/-! ===== a sorted map of any of the three kinds ===== -/
theorem or_call3 {A B C D G : Prop} (h : A ∨ B ∨ C) (f : A → D → G) (g : B → D → G) (k : C → D → G) (c : D) : G := by
  rcases h with h | h | h
  · exact f h c
  · exact g h c
  · exact k h c
theorem qV_mono {q q' : Mem → Prop} (h : ∀ u, q u → q' u) : ∀ r u, qV q r u → qV q' r u := by
  intro r u hq
  unfold qV at hq ⊢
  exact ⟨hq.1, h u hq.2⟩
def TP (G : Nat → Prop) (u : Mem) (t : Nat) (S : List Nat) : Prop := (kd_ u t = 4 ∧ BT u t S) ∨ (kd_ u t = 5 ∧ YT G u t S) ∨ (kd_ u t = 12 ∧ CT u t S)
theorem TP.k3 {G : Nat → Prop} {u : Mem} {t : Nat} {S : List Nat} (h : TP G u t S) : kd_ u t = 4 ∨ kd_ u t = 5 ∨ kd_ u t = 12 := by
  rcases h with h | h | h
  · exact Or.inl h.1
  · exact Or.inr (Or.inl h.1)
  · exact Or.inr (Or.inr h.1)
theorem TP.b {G : Nat → Prop} {u : Mem} {t : Nat} {S : List Nat} (h : TP G u t S) (k : kd_ u t = 4) : BT u t S := by
  rcases h with h | h | h
  · exact h.2
  · have := h.1; omega
  · have := h.1; omega
theorem TP.y {G : Nat → Prop} {u : Mem} {t : Nat} {S : List Nat} (h : TP G u t S) (k : kd_ u t = 5) : YT G u t S := by
  rcases h with h | h | h
  · have := h.1; omega
  · exact h.2
  · have := h.1; omega
theorem TP.c {G : Nat → Prop} {u : Mem} {t : Nat} {S : List Nat} (h : TP G u t S) (k : kd_ u t = 12) : CT u t S := by
  rcases h with h | h | h
  · have := h.1; omega
  · have := h.1; omega
  · exact h.2
theorem TP.of_b {G : Nat → Prop} {u : Mem} {t : Nat} {S : List Nat} (h : BT u t S) : TP G u t S := Or.inl ⟨h.1, h⟩
theorem TP.of_c {G : Nat → Prop} {u : Mem} {t : Nat} {S : List Nat} (h : CT u t S) : TP G u t S := Or.inr (Or.inr ⟨h.1, h⟩)
theorem TP.of_y {G : Nat → Prop} {u : Mem} {t : Nat} {S : List Nat} (h : YT G u t S) : TP G u t S := by
  have : kd_ u t = 5 := by obtain ⟨w3, w4, n, ES, FP, hY, -⟩ := h; exact hY.1
  exact Or.inr (Or.inl ⟨this, h⟩)
/-- the cells of a map of the kind kt -/
def Sc (G : Nat → Prop) (kt K a : Nat) : Prop := (kt = 4 ∧ K = 15) ∨ (kt = 5 ∧ K5 K ∧ ¬ G a) ∨ (kt = 12 ∧ K = 17)
def QT (G : Nat → Prop) (kt t : Nat) (a K : Nat) : Prop := Sc G kt K a ∨ a = t
theorem TP.frame {G : Nat → Prop} {u u' : Mem} {t : Nat} {S : List Nat} (h : TP G u t S) (hw : Wf u) (hk : kd_ u' t = kd_ u t) (hr : ∀ i, rv_ u' t i = rv_ u t i) (hc : ∀ a, a < sz_ u → Sc G (kd_ u t) (kd_ u a) a → Sm u u' a) (he : ∀ e ∈ S, En u e → En u' e ∧ tx u' e = tx u e) : TP G u' t S := by
  rcases h with ⟨k, h⟩ | ⟨k, h⟩ | ⟨k, h⟩
  · refine TP.of_b (h.frame (fun a ha => ?_) he)
    by_cases z : a = t
    · subst z; exact ⟨hk, hr, fun q => by omega⟩
    · have q := ha.resolve_right z
      have := hc a (hw.1 a (by omega)).1 (Or.inl ⟨k, q⟩)
      exact ⟨this.1, this.2.2.2, fun _ => this⟩
  · obtain ⟨w3, w4, n, ES, FP, hY, hTN, hp0, h3, h4, hS, hG⟩ := h
    have hk5 := (TR.mem hTN).2.1
    have hEn := (TR.mem hTN).1
    obtain ⟨y1, y2, y3, y4, y5, y6, y7⟩ := hY
    have hF : ∀ a ∈ FP, Sm u u' a := fun a ha => hc a (hw.1 a (by have := hk5 a ha; unfold K5 at this; omega)).1 (Or.inr (Or.inl ⟨k, hk5 a ha, hG a (Or.inl ha)⟩))
    have s3 := hc w3 (hw.1 w3 (by omega)).1 (Or.inr (Or.inl ⟨k, by rw [y4]; unfold K5; decide, hG w3 (Or.inr (Or.inl rfl))⟩))
    have s4 := hc w4 (hw.1 w4 (by omega)).1 (Or.inr (Or.inl ⟨k, by rw [y6]; unfold K5; decide, hG w4 (Or.inr (Or.inr rfl))⟩))
    have hen : ∀ e ∈ ES, En u' e ∧ tx u' e = tx u e := fun e hh => he e ((hS e).mpr hh) (hEn e hh).1
    refine TP.of_y ⟨w3, w4, n, ES, FP, ⟨by rw [hk]; exact y1, by rw [hr]; exact y2, by rw [hr]; exact y3, by rw [s3.1]; exact y4, by rw [s3.2.1]; exact y5, by rw [s4.1]; exact y6, by rw [s4.2.1]; exact y7⟩, ?_, ?_, h3, h4, hS, hG⟩
    · rw [hr]
      exact TN.frame (R' := TT u' n) hTN hF hen (TT.frame n)
    · rw [hr]
      obtain ⟨es0, cs, hD, hes, hf⟩ := hTN.td
      rw [(hD.frame (u' := u') (fun a ha => hF a (by rw [hf]; exact ha)) (fun e hh => hen e (by rw [hes]; exact hh))).2.2]
      exact hp0
  · refine TP.of_c (h.frame (fun a ha => ?_) he)
    by_cases z : a = t
    · subst z; exact ⟨hk, hr, fun q => by omega⟩
    · have q := ha.resolve_right z
      have := hc a (hw.1 a (by omega)).1 (Or.inr (Or.inr ⟨k, q⟩))
      exact ⟨this.1, this.2.2.2, fun _ => this⟩
theorem TP.en {G : Nat → Prop} {u : Mem} {t : Nat} {S : List Nat} (h : TP G u t S) : ∀ e ∈ S, En u e := by
  intro e he
  rcases h with ⟨-, -, h⟩ | ⟨-, h⟩ | ⟨-, -, n, es0, es, fp, h1, h2, h3⟩
  · rcases h with ⟨-, h⟩ | ⟨n, es, fp, h1, h2⟩
    · rw [h] at he; simp at he
    · exact (FT.mem _ _ _ _ _ h1).2.1 e ((h2 e).mp he)
  · obtain ⟨w3, w4, n, ES, FP, hY, hTN, hp0, h3, h4, hS, hG⟩ := h
    exact ((TR.mem hTN).1 e ((hS e).mp he)).1
  · rcases List.mem_append.mp ((h3 e).mp he) with q | q
    · rcases h1 with ⟨-, z⟩ | ⟨z1, -, z2⟩
      · rw [z] at q; simp at q
      · rw [z2] at q; rw [List.mem_singleton.mp q]; exact z1
    · exact ((WT.mem _ _ _ _ _ h2).1 e q).1
/-- entries of a map have different texts -/
theorem TP.inj {G : Nat → Prop} {u : Mem} {t : Nat} {S : List Nat} (h : TP G u t S) (hS : S.length ≤ 64) : ∀ x ∈ S, ∀ y ∈ S, tx u x = tx u y → x = y := by
  intro x hx y hy hxy
  rcases h with ⟨-, -, h⟩ | ⟨-, h⟩ | ⟨-, h⟩
  · rcases h with ⟨-, h⟩ | ⟨n, es, fp, h1, h2⟩
    · rw [h] at hx; simp at hx
    · exact tx_inj (FT.sorted _ _ _ _ h1) ((h2 x).mp hx) ((h2 y).mp hy) hxy
  · obtain ⟨w3, w4, n, ES, FP, hY, hTN, hp0, h3, h4, hS, hG⟩ := h
    exact tx_inj (TR.sorted hTN) ((hS x).mp hx) ((hS y).mp hy) hxy
  · obtain ⟨es0, es, fp, h1, h2, h3, h4⟩ := h.fit hS
    exact tx_inj h4 ((h3 x).mp hx) ((h3 y).mp hy) hxy
/-- get -/
def qG3 (G : Nat → Prop) (u : Mem) (t : Nat) (S : List Nat) (k r : Nat) (v : Mem) : Prop := qGet u S k r ∧ TP G v t S ∧ Fr (QT G (kd_ u t) t) u v ∧ sz_ v = sz_ u ∧ ∀ i, i ≠ 5 → iv_ v t i = iv_ u t i
theorem c_R4_get (l : Launch) (u : Mem) {G : Nat → Prop} {t k : Nat} {S : List Nat} (hT : TP G u t S) (hk : Ky u k) (h : kd_ u t = 4) : Mt_ l yX4_get cX4_get 3 (some (.object "KeyHall$Entry")) 3 0 0 [aR t, aR k] u (qR fun r v => qG3 G u t S k r v) :=
  (c_BT_get l u (hT.b h) hk).weak (by omega) (by omega) (by omega) (qR_mono (fun r v hq => by
    obtain ⟨rfl, hq⟩ := hq
    exact ⟨hq, hT, Fr.rf _ _, rfl, fun _ _ => rfl⟩))
theorem c_R5_get (l : Launch) (u : Mem) {G : Nat → Prop} {t k : Nat} {S : List Nat} (hT : TP G u t S) (hk : Ky u k) (h : kd_ u t = 5) : Mt_ l yX5_get cX5_get 3 (some (.object "KeyHall$Entry")) 3 0 0 [aR t, aR k] u (qR fun r v => qG3 G u t S k r v) :=
  (c_YT_get l u (hT.y h) hk).weak (by omega) (by omega) (by omega) (qR_mono (fun r v hq => by
    obtain ⟨q1, q2, q3, q4, q5⟩ := hq
    exact ⟨q1, TP.of_y q2, q3.mono (fun a K q => by
      rcases q with q | q
      · exact Or.inl (Or.inr (Or.inl ⟨h, q⟩))
      · exact Or.inr q), q4, q5⟩))
theorem c_R12_get (l : Launch) (u : Mem) {G : Nat → Prop} {t k : Nat} {S : List Nat} (hT : TP G u t S) (hk : Ky u k) (h : kd_ u t = 12) : Mt_ l yX12_get cX12_get 4 (some (.object "KeyHall$Entry")) 3 0 0 [aR t, aR k] u (qR fun r v => qG3 G u t S k r v) :=
  (c_CT_get l u (hT.c h) hk).weak (by omega) (by omega) (by omega) (qR_mono (fun r v hq => by
    obtain ⟨rfl, hq⟩ := hq
    exact ⟨hq, hT, Fr.rf _ _, rfl, fun _ _ => rfl⟩))
theorem c_R4_above (l : Launch) (u : Mem) {G : Nat → Prop} {t k : Nat} {S : List Nat} {st : Int} (hT : TP G u t S) (hc : iv_ u t 0 = S.length) (hS : S.length ≤ 64) (hk : k = 0 ∨ Ky u k) (hst : st = 0 ∨ st = 1) (h : kd_ u t = 4) : Mt_ l yX4_above cX4_above 3 (some (.object "KeyHall$Entry")) 1100 0 0 [aR t, aR k, aI st] u (qR fun r v => u = v ∧ qAb u S k st r) := (c_BT_above l u (hT.b h) hk hst).weak (by omega) (by omega) (by omega) (fun _ _ h => h)
theorem c_R5_above (l : Launch) (u : Mem) {G : Nat → Prop} {t k : Nat} {S : List Nat} {st : Int} (hT : TP G u t S) (hc : iv_ u t 0 = S.length) (hS : S.length ≤ 64) (hk : k = 0 ∨ Ky u k) (hst : st = 0 ∨ st = 1) (h : kd_ u t = 5) : Mt_ l yX5_above cX5_above 3 (some (.object "KeyHall$Entry")) 1100 0 0 [aR t, aR k, aI st] u (qR fun r v => u = v ∧ qAb u S k st r) := (c_YT_above l u (hT.y h) hc hk hst hS).weak (by omega) (by omega) (by omega) (fun _ _ h => h)
theorem c_R12_above (l : Launch) (u : Mem) {G : Nat → Prop} {t k : Nat} {S : List Nat} {st : Int} (hT : TP G u t S) (hc : iv_ u t 0 = S.length) (hS : S.length ≤ 64) (hk : k = 0 ∨ Ky u k) (hst : st = 0 ∨ st = 1) (h : kd_ u t = 12) : Mt_ l yX12_above cX12_above 3 (some (.object "KeyHall$Entry")) 1100 0 0 [aR t, aR k, aI st] u (qR fun r v => u = v ∧ qAb u S k st r) := c_CT_above l u (hT.c h) hS hk hst
theorem c_R4_below (l : Launch) (u : Mem) {G : Nat → Prop} {t k : Nat} {S : List Nat} {st : Int} (hT : TP G u t S) (hc : iv_ u t 0 = S.length) (hS : S.length ≤ 64) (hk : k = 0 ∨ Ky u k) (hst : st = 0 ∨ st = 1) (h : kd_ u t = 4) : Mt_ l yX4_below cX4_below 3 (some (.object "KeyHall$Entry")) 1100 0 0 [aR t, aR k, aI st] u (qR fun r v => u = v ∧ qBe u S k st r) := (c_BT_below l u (hT.b h) hk hst).weak (by omega) (by omega) (by omega) (fun _ _ h => h)
theorem c_R5_below (l : Launch) (u : Mem) {G : Nat → Prop} {t k : Nat} {S : List Nat} {st : Int} (hT : TP G u t S) (hc : iv_ u t 0 = S.length) (hS : S.length ≤ 64) (hk : k = 0 ∨ Ky u k) (hst : st = 0 ∨ st = 1) (h : kd_ u t = 5) : Mt_ l yX5_below cX5_below 3 (some (.object "KeyHall$Entry")) 1100 0 0 [aR t, aR k, aI st] u (qR fun r v => u = v ∧ qBe u S k st r) := (c_YT_below l u (hT.y h) hc hk hst hS).weak (by omega) (by omega) (by omega) (fun _ _ h => h)
theorem c_R12_below (l : Launch) (u : Mem) {G : Nat → Prop} {t k : Nat} {S : List Nat} {st : Int} (hT : TP G u t S) (hc : iv_ u t 0 = S.length) (hS : S.length ≤ 64) (hk : k = 0 ∨ Ky u k) (hst : st = 0 ∨ st = 1) (h : kd_ u t = 12) : Mt_ l yX12_below cX12_below 4 (some (.object "KeyHall$Entry")) 1100 0 0 [aR t, aR k, aI st] u (qR fun r v => u = v ∧ qBe u S k st r) := c_CT_below l u (hT.c h) hS hk hst
/-- put and take -/
def qP3 (G : Nat → Prop) (u : Mem) (t : Nat) (P : Nat → Prop) (v : Mem) : Prop := (∀ S', (∀ x, x ∈ S' ↔ P x) → TP G v t S') ∧ Fr (QT G (kd_ u t) t) u v ∧ ∀ i, i ≠ 5 → iv_ v t i = iv_ u t i
theorem c_R4_put (l : Launch) (u : Mem) {G : Nat → Prop} {t e : Nat} {S : List Nat} (hT : TP G u t S) (hGl : ∀ a, G a → a < sz_ u) (hS : S.length < 40) (he : En u e) (hnew : ∀ x ∈ S, tx u x ≠ tx u e) (h : kd_ u t = 4) : Mt_ l yX4_put cX4_put 7 none 600 16 452 [aR t, aR e] u (qV fun v => qP3 G u t (fun x => x ∈ S ∨ x = e) v) :=
  (c_BT_put l u (hT.b h) he hnew).weak (by omega) (by omega) (by omega) (qV_mono (fun v hq => ⟨fun S' h' => TP.of_b (hq.1 S' h'), hq.2.1.mono (fun a K q => by
      rcases q with q | q
      · exact Or.inl (Or.inl ⟨h, q⟩)
      · exact Or.inr q), fun i _ => hq.2.2 i⟩))
theorem c_R5_put (l : Launch) (u : Mem) {G : Nat → Prop} {t e : Nat} {S : List Nat} (hT : TP G u t S) (hGl : ∀ a, G a → a < sz_ u) (hS : S.length < 40) (he : En u e) (hnew : ∀ x ∈ S, tx u x ≠ tx u e) (h : kd_ u t = 5) : Mt_ l yX5_put cX5_put 7 none 600 16 452 [aR t, aR e] u (qV fun v => qP3 G u t (fun x => x ∈ S ∨ x = e) v) :=
  (c_YT_put l u (hT.y h) hGl hS he hnew).weak (by omega) (by omega) (by omega) (qV_mono (fun v hq => ⟨fun S' h' => TP.of_y (hq.1 S' h'), hq.2.1.mono (fun a K q => by
      rcases q with q | q
      · exact Or.inl (Or.inr (Or.inl ⟨h, q⟩))
      · exact Or.inr q), fun i _ => hq.2.2 i⟩))
theorem c_R12_put (l : Launch) (u : Mem) {G : Nat → Prop} {t e : Nat} {S : List Nat} (hT : TP G u t S) (hGl : ∀ a, G a → a < sz_ u) (hS : S.length < 40) (he : En u e) (hnew : ∀ x ∈ S, tx u x ≠ tx u e) (h : kd_ u t = 12) : Mt_ l yX12_put cX12_put 2 none 600 16 452 [aR t, aR e] u (qV fun v => qP3 G u t (fun x => x ∈ S ∨ x = e) v) :=
  (c_CT_put l u (hT.c h) (by omega) he hnew).weak (by omega) (by omega) (by omega) (qV_mono (fun v hq => ⟨fun S' h' => TP.of_c (hq.1 S' h'), hq.2.1.mono (fun a K q => by
      rcases q with q | q
      · exact Or.inl (Or.inr (Or.inr ⟨h, q⟩))
      · exact Or.inr q), fun i _ => hq.2.2 i⟩))
theorem c_R4_take (l : Launch) (u : Mem) {G : Nat → Prop} {t e : Nat} {S : List Nat} (hT : TP G u t S) (hGl : ∀ a, G a → a < sz_ u) (hS : S.length ≤ 40) (he : e ∈ S) (h : kd_ u t = 4) : Mt_ l yX4_take cX4_take 5 none 600 16 452 [aR t, aR e] u (qV fun v => qP3 G u t (fun x => x ∈ S ∧ x ≠ e) v) :=
  (c_BT_take l u (hT.b h) he).weak (by omega) (by omega) (by omega) (qV_mono (fun v hq => ⟨fun S' h' => TP.of_b (hq.1 S' h'), hq.2.1.mono (fun a K q => by
      rcases q with q | q
      · exact Or.inl (Or.inl ⟨h, q⟩)
      · exact Or.inr q), fun i _ => hq.2.2 i⟩))
theorem c_R5_take (l : Launch) (u : Mem) {G : Nat → Prop} {t e : Nat} {S : List Nat} (hT : TP G u t S) (hGl : ∀ a, G a → a < sz_ u) (hS : S.length ≤ 40) (he : e ∈ S) (h : kd_ u t = 5) : Mt_ l yX5_take cX5_take 3 none 600 16 452 [aR t, aR e] u (qV fun v => qP3 G u t (fun x => x ∈ S ∧ x ≠ e) v) :=
  (c_YT_take l u (hT.y h) hGl hS he).weak (by omega) (by omega) (by omega) (qV_mono (fun v hq => ⟨fun S' h' => TP.of_y (hq.1 S' h'), hq.2.1.mono (fun a K q => by
      rcases q with q | q
      · exact Or.inl (Or.inr (Or.inl ⟨h, q⟩))
      · exact Or.inr q), fun i hi => hq.2.2 i hi⟩))
theorem c_R12_take (l : Launch) (u : Mem) {G : Nat → Prop} {t e : Nat} {S : List Nat} (hT : TP G u t S) (hGl : ∀ a, G a → a < sz_ u) (hS : S.length ≤ 40) (he : e ∈ S) (h : kd_ u t = 12) : Mt_ l yX12_take cX12_take 2 none 600 16 452 [aR t, aR e] u (qV fun v => qP3 G u t (fun x => x ∈ S ∧ x ≠ e) v) :=
  (c_CT_take l u (hT.c h) (by omega) he).weak (by omega) (by omega) (by omega) (qV_mono (fun v hq => ⟨fun S' h' => TP.of_c (hq.1 S' h'), hq.2.1.mono (fun a K q => by
      rcases q with q | q
      · exact Or.inl (Or.inr (Or.inr ⟨h, q⟩))
      · exact Or.inr q), fun i _ => hq.2.2 i⟩))
/-- add and remove: the counts -/
theorem TP.ints {G : Nat → Prop} {u : Mem} {t : Nat} {S : List Nat} {i x : Int} (h : TP G u t S) (hw : Wf u) : TP G (wI_ u t i x) t S := by
  have k3 := h.k3
  refine h.frame hw rfl (fun _ => rfl) (fun a _ hs => Sm.wI (fun z => ?_)) (fun e _ he => ?_)
  · subst z
    unfold Sc K5 at hs
    omega
  · have s1 : Sm u (wI_ u t i x) e := Sm.wI (fun z => by rw [z] at he; have := he.2; omega)
    have := he.1.same s1 (Sm.wI (fun z => by have := he.1.2.2.1; rw [z] at this; omega))
    exact ⟨⟨this.1, by rw [s1.1]; exact he.2⟩, this.2⟩
theorem c_add (l : Launch) (u : Mem) {G : Nat → Prop} {t e : Nat} {S : List Nat} (hT : TP G u t S) (hGl : ∀ a, G a → a < sz_ u) (hS : S.length < 40) (he : En u e) (hnew : ∀ x ∈ S, tx u x ≠ tx u e) :
    Mt_ l yX3_add cX3_add 2 none 601 16 452 [aR t, aR e] u (qV fun v => (∀ S', (∀ x, x ∈ S' ↔ x ∈ S ∨ x = e) → TP G v t S') ∧ Fr (QT G (kd_ u t) t) u v ∧ iv_ v t 0 = iv_ u t 0 + 1 ∧ iv_ v t 1 = iv_ u t 1 + 1) := by
  refine Mt_of (by decide) (Nat.le_of_ble_eq_true rfl) (fun X ho hX hN hI => ?_)
  subst hX
  show Z X 0 [some (aR t), some (aR e)] [] u 0 0
  refine z_wf (fun hw => ?_)
  have k3 := hT.k3
  have htl := hw.1 t (by omega)
  refine z_aload_n ho dX3_add_0 rfl ?_
  refine z_aload_n ho dX3_add_1 rfl ?_
  refine or_call3 (hT.k3) (fun hq cc => kX3_7_4 ho hN (c_R4_put _ _ hT hGl hS he hnew hq) dX3_add_2 hq (Nat.le_of_ble_eq_true rfl) (Nat.le_of_ble_eq_true rfl) (Nat.le_of_ble_eq_true rfl) (Nat.le_of_ble_eq_true rfl) cc) (fun hq cc => kX3_7_5 ho hN (c_R5_put _ _ hT hGl hS he hnew hq) dX3_add_2 hq (Nat.le_of_ble_eq_true rfl) (Nat.le_of_ble_eq_true rfl) (Nat.le_of_ble_eq_true rfl) (Nat.le_of_ble_eq_true rfl) cc) (fun hq cc => kX3_7_12 ho hN (c_R12_put _ _ hT hGl hS he hnew hq) dX3_add_2 hq (Nat.le_of_ble_eq_true rfl) (Nat.le_of_ble_eq_true rfl) (Nat.le_of_ble_eq_true rfl) (Nat.le_of_ble_eq_true rfl) cc) (fun u2 h2 => ?_)
  obtain ⟨q1, q2, q3⟩ := h2
  refine z_wf (fun hw2 => ?_)
  have kk : kd_ u2 t = kd_ u t := (q2.2 t htl.1).1
  refine z_aload_n ho dX3_add_5 rfl ?_
  refine z_dup ho dX3_add_6 rfl ?_
  refine gX3_13 ho dX3_add_7 (by unfold isT_; rw [kk]; exact k3) ?_
  refine z_iconst ho dX3_add_10 ?_
  refine z_iadd ho dX3_add_11 ?_
  refine pX3_13 ho dX3_add_12 (by unfold isT_; rw [kk]; exact k3)  ?_
  refine z_aload_n ho dX3_add_15 rfl ?_
  refine z_dup ho dX3_add_16 rfl ?_
  refine gX3_17 ho dX3_add_17 (by unfold isT_; rw [kd_wI, kk]; exact k3) ?_
  refine z_iconst ho dX3_add_20 ?_
  refine z_iadd ho dX3_add_21 ?_
  refine pX3_17 ho dX3_add_22 (by unfold isT_; rw [kd_wI, kk]; exact k3)  ?_
  refine r_V ho dX3_add_25 (Nat.le_of_ble_eq_true rfl) (Nat.le_of_ble_eq_true rfl) ?_
  have e0 : iv_ (wI_ u2 t 0 (iv_ u2 t 0 + 1)) t 1 = iv_ u2 t 1 := by rw [iv_wI, if_neg (by omega)]
  refine ⟨fun S' h' => TP.ints (TP.ints (q1 S' h') hw2) hw2, ((q2.nI (Or.inr (Or.inr rfl))).nI (Or.inr (Or.inr rfl))), ?_, ?_⟩
  · rw [iv_wI, if_neg (by omega), iv_wI, if_pos ⟨rfl, rfl⟩, q3 0 (by decide)]
  · rw [iv_wI, if_pos ⟨rfl, rfl⟩, e0, q3 1 (by decide)]
theorem c_remove (l : Launch) (u : Mem) {G : Nat → Prop} {t e : Nat} {S : List Nat} (hT : TP G u t S) (hGl : ∀ a, G a → a < sz_ u) (hS : S.length ≤ 40) (he : e ∈ S) :
    Mt_ l yX3_remove cX3_remove 2 none 601 16 452 [aR t, aR e] u (qV fun v => (∀ S', (∀ x, x ∈ S' ↔ x ∈ S ∧ x ≠ e) → TP G v t S') ∧ Fr (QT G (kd_ u t) t) u v ∧ iv_ v t 0 = iv_ u t 0 - 1 ∧ iv_ v t 1 = iv_ u t 1 + 1) := by
  refine Mt_of (by decide) (Nat.le_of_ble_eq_true rfl) (fun X ho hX hN hI => ?_)
  subst hX
  show Z X 0 [some (aR t), some (aR e)] [] u 0 0
  refine z_wf (fun hw => ?_)
  have k3 := hT.k3
  have htl := hw.1 t (by omega)
  refine z_aload_n ho dX3_remove_0 rfl ?_
  refine z_aload_n ho dX3_remove_1 rfl ?_
  refine or_call3 (hT.k3) (fun hq cc => kX3_20_4 ho hN (c_R4_take _ _ hT hGl hS he hq) dX3_remove_2 hq (Nat.le_of_ble_eq_true rfl) (Nat.le_of_ble_eq_true rfl) (Nat.le_of_ble_eq_true rfl) (Nat.le_of_ble_eq_true rfl) cc) (fun hq cc => kX3_20_5 ho hN (c_R5_take _ _ hT hGl hS he hq) dX3_remove_2 hq (Nat.le_of_ble_eq_true rfl) (Nat.le_of_ble_eq_true rfl) (Nat.le_of_ble_eq_true rfl) (Nat.le_of_ble_eq_true rfl) cc) (fun hq cc => kX3_20_12 ho hN (c_R12_take _ _ hT hGl hS he hq) dX3_remove_2 hq (Nat.le_of_ble_eq_true rfl) (Nat.le_of_ble_eq_true rfl) (Nat.le_of_ble_eq_true rfl) (Nat.le_of_ble_eq_true rfl) cc) (fun u2 h2 => ?_)
  obtain ⟨q1, q2, q3⟩ := h2
  refine z_wf (fun hw2 => ?_)
  have kk : kd_ u2 t = kd_ u t := (q2.2 t htl.1).1
  refine z_aload_n ho dX3_remove_5 rfl ?_
  refine z_dup ho dX3_remove_6 rfl ?_
  refine gX3_13 ho dX3_remove_7 (by unfold isT_; rw [kk]; exact k3) ?_
  refine z_iconst ho dX3_remove_10 ?_
  refine z_isub ho dX3_remove_11 ?_
  refine pX3_13 ho dX3_remove_12 (by unfold isT_; rw [kk]; exact k3)  ?_
  refine z_aload_n ho dX3_remove_15 rfl ?_
  refine z_dup ho dX3_remove_16 rfl ?_
  refine gX3_17 ho dX3_remove_17 (by unfold isT_; rw [kd_wI, kk]; exact k3) ?_
  refine z_iconst ho dX3_remove_20 ?_
  refine z_iadd ho dX3_remove_21 ?_
  refine pX3_17 ho dX3_remove_22 (by unfold isT_; rw [kd_wI, kk]; exact k3)  ?_
  refine r_V ho dX3_remove_25 (Nat.le_of_ble_eq_true rfl) (Nat.le_of_ble_eq_true rfl) ?_
  have e0 : iv_ (wI_ u2 t 0 (iv_ u2 t 0 - 1)) t 1 = iv_ u2 t 1 := by rw [iv_wI, if_neg (by omega)]
  refine ⟨fun S' h' => TP.ints (TP.ints (q1 S' h') hw2) hw2, ((q2.nI (Or.inr (Or.inr rfl))).nI (Or.inr (Or.inr rfl))), ?_, ?_⟩
  · rw [iv_wI, if_neg (by omega), iv_wI, if_pos ⟨rfl, rfl⟩, q3 0 (by decide)]
  · rw [iv_wI, if_pos ⟨rfl, rfl⟩, e0, q3 1 (by decide)]
/-! the maps when they begin -/
theorem c_X3_init (l : Launch) (u : Mem) {a : Nat} (ha : a ≠ 0) : Mt_ l yX3_init cX3_init 1 none 1 0 0 [aR a] u (qV fun u' => u = u') := by
  refine Mt_of (by decide) (Nat.le_of_ble_eq_true rfl) (fun X ho hX hN hI => ?_)
  subst hX
  have hin : In_ X := hI rfl
  show Z X 0 [some (aR a)] [] u 0 0
  refine z_aload_n ho dX3_init_0 rfl ?_
  refine kX3_1 ho hN dX3_init_1 ha (Nat.le_of_ble_eq_true rfl) (Nat.le_of_ble_eq_true rfl) ?_
  refine r_V ho dX3_init_4 (Nat.le_of_ble_eq_true rfl) (Nat.le_of_ble_eq_true rfl) ?_
  rfl
theorem c_X4_init (l : Launch) (u : Mem) {a : Nat} (ha : a ≠ 0) : Mt_ l yX4_init cX4_init 1 none 2 0 0 [aR a] u (qV fun u' => u = u') := by
  refine Mt_of (by decide) (Nat.le_of_ble_eq_true rfl) (fun X ho hX hN hI => ?_)
  subst hX
  have hin : In_ X := hI rfl
  show Z X 0 [some (aR a)] [] u 0 0
  refine z_aload_n ho dX4_init_0 rfl ?_
  refine kX4_1 ho hN (c_X3_init _ _ ha) dX4_init_1 ha (Nat.le_of_ble_eq_true rfl) (Nat.le_of_ble_eq_true rfl) (Nat.le_of_ble_eq_true rfl) (Nat.le_of_ble_eq_true rfl) (fun u1 h1 => ?_)
  obtain rfl := h1
  refine r_V ho dX4_init_4 (Nat.le_of_ble_eq_true rfl) (Nat.le_of_ble_eq_true rfl) ?_
  rfl
theorem c_X12_init (l : Launch) (u : Mem) {a : Nat} (ha : a ≠ 0) : Mt_ l yX12_init cX12_init 1 none 2 0 0 [aR a] u (qV fun u' => u = u') := by
  refine Mt_of (by decide) (Nat.le_of_ble_eq_true rfl) (fun X ho hX hN hI => ?_)
  subst hX
  have hin : In_ X := hI rfl
  show Z X 0 [some (aR a)] [] u 0 0
  refine z_aload_n ho dX12_init_0 rfl ?_
  refine kX12_1 ho hN (c_X3_init _ _ ha) dX12_init_1 ha (Nat.le_of_ble_eq_true rfl) (Nat.le_of_ble_eq_true rfl) (Nat.le_of_ble_eq_true rfl) (Nat.le_of_ble_eq_true rfl) (fun u1 h1 => ?_)
  obtain rfl := h1
  refine r_V ho dX12_init_4 (Nat.le_of_ble_eq_true rfl) (Nat.le_of_ble_eq_true rfl) ?_
  rfl
theorem BT.new {u : Mem} {t : Nat} (k : kd_ u t = 4) (h : ∀ i, rv_ u t i = 0) : BT u t [] := ⟨k, Or.inl ⟨h 2, rfl⟩⟩
theorem CT.new {u : Mem} {t : Nat} (k : kd_ u t = 12) (h : ∀ i, rv_ u t i = 0) : CT u t [] := by
  refine ⟨k, 1, [], [], [], Or.inl ⟨h 3, rfl⟩, ?_, fun e => by simp⟩
  rw [h 2]
  exact Or.inl ⟨rfl, rfl, rfl⟩
theorem c_X5_init (l : Launch) (u : Mem) {G : Nat → Prop} {t : Nat} (k : kd_ u t = 5) (hz : sz_ u = t + 1) (hr : ∀ i, rv_ u t i = 0) (hi : ∀ i, iv_ u t i = 0) (hGl : ∀ a, G a → a < t ∨ t + 8 ≤ a) : Mt_ l yX5_init cX5_init 1 none 4 7 91 [aR t] u (qV fun v => YT G v t [] ∧ iv_ v t 0 = 0 ∧ iv_ v t 1 = 0 ∧ sz_ v = t + 8 ∧ kd_ v t = 5 ∧ ∀ a, a < t → Sm u v a) := by
  refine Mt_of (by decide) (Nat.le_of_ble_eq_true rfl) (fun X ho hX hN hI => ?_)
  subst hX
  have hin : In_ X := hI rfl
  show Z X 0 [some (aR t)] [] u 0 0
  refine z_wf (fun hw => ?_)
  have ht0 := (hw.1 t (by omega)).2
  refine z_aload_n ho dX5_init_0 rfl ?_
  refine kX5_3 ho hN (c_X3_init _ _ ht0) dX5_init_1 ht0 (Nat.le_of_ble_eq_true rfl) (Nat.le_of_ble_eq_true rfl) (Nat.le_of_ble_eq_true rfl) (Nat.le_of_ble_eq_true rfl) (fun u1 h1 => ?_)
  obtain rfl := h1
  refine z_aload_n ho dX5_init_4 rfl ?_
  refine nX5_9 ho dX5_init_5 (Nat.le_of_ble_eq_true rfl) (Nat.le_of_ble_eq_true rfl) ?_
  refine z_dup ho dX5_init_8 rfl ?_
  refine kX5_11 ho hN (c_Tw_init _ _ (by rw [kd_al, if_pos rfl]) rfl (fun i => by rw [iv_al, if_pos rfl]) (fun i => by rw [rv_al, if_pos rfl])) dX5_init_9 (by omega) (Nat.le_of_ble_eq_true rfl) (Nat.le_of_ble_eq_true rfl) (Nat.le_of_ble_eq_true rfl) (Nat.le_of_ble_eq_true rfl) (fun u9 h9 => ?_)
  obtain ⟨a1, a2, a3, a4, a5, a6, a7, a8, a9, a10, a11⟩ := h9
  rw [hz] at a1 a2 a3 a4 a5 a6 a7 a8 a9 a10 a11
  have st : Sm (al_ u 6 0) u9 t := a11 t (by omega)
  have kt : kd_ u9 t = 5 := by rw [st.1, kd_al, if_neg (by omega)]; exact k
  rw [hz]
  refine pX5_12 ho hin dX5_init_12 kt  ?_
  refine z_aload_n ho dX5_init_15 rfl ?_
  refine z_bipush ho dX5_init_16 rfl ?_
  refine aX5_9 ho dX5_init_18 (by omega) (by omega) (Nat.le_of_ble_eq_true rfl) (Nat.le_of_ble_eq_true rfl) ?_
  refine pX5_18 ho hin dX5_init_21 (by rw [kd_al, if_neg (by rw [sz_wR]; omega), kd_wR]; exact kt)  ?_
  refine z_aload_n ho dX5_init_24 rfl ?_
  refine z_bipush ho dX5_init_25 rfl ?_
  refine na_I ho dX5_init_27 (by omega) (by omega) (Nat.le_of_ble_eq_true rfl) (Nat.le_of_ble_eq_true rfl) ?_
  refine pX5_22 ho hin dX5_init_29 (by rw [kd_al, sz_wR, sz_al, sz_wR, if_neg (by omega), kd_wR, kd_al, sz_wR, if_neg (by omega), kd_wR]; exact kt)  ?_
  refine r_V ho dX5_init_32 (Nat.le_of_ble_eq_true rfl) (Nat.le_of_ble_eq_true rfl) ?_
  have e1 : sz_ (wR_ u9 t 2 (t + 1)) = t + 6 := by rw [sz_wR, a10]
  have e2 : sz_ (wR_ (al_ (wR_ u9 t 2 (t + 1)) 105 18) t 3 (sz_ (wR_ u9 t 2 (t + 1)))) = t + 7 := by rw [sz_wR, sz_al, e1]
  rw [e2, e1]
  generalize hv : wR_ (al_ (wR_ (al_ (wR_ u9 t 2 (t + 1)) 105 18) t 3 (t + 6)) 100 18) t 4 (t + 7) = v
  have e3 : sz_ (wR_ (al_ (wR_ u9 t 2 (t + 1)) 105 18) t 3 (t + 6)) = t + 7 := by rw [sz_wR, sz_al, e1]
  have S9 : ∀ a, a < t + 6 → a ≠ t → Sm u9 v a := fun a h1 h2 => by
    rw [← hv]
    exact ((((Sm.wR h2).tr (Sm.al (by rw [e1]; omega))).tr (Sm.wR h2)).tr (Sm.al (by rw [e3]; omega))).tr (Sm.wR h2)
  have kv : kd_ v t = 5 := by rw [← hv, kd_wR, kd_al, if_neg (by rw [e3]; omega), kd_wR, kd_al, if_neg (by rw [e1]; omega), kd_wR]; exact kt
  have r2 : rv_ v t 2 = t + 1 := by rw [← hv, rv_wR, if_neg (by omega), rv_al, if_neg (by rw [e3]; omega), rv_wR, if_neg (by omega), rv_al, if_neg (by rw [e1]; omega), rv_wR, if_pos ⟨rfl, rfl⟩]
  have r3 : rv_ v t 3 = t + 6 := by rw [← hv, rv_wR, if_neg (by omega), rv_al, if_neg (by rw [e3]; omega), rv_wR, if_pos ⟨rfl, rfl⟩]
  have r4 : rv_ v t 4 = t + 7 := by rw [← hv, rv_wR, if_pos ⟨rfl, rfl⟩]
  have k6 : kd_ v (t + 6) = 105 ∧ ln_ v (t + 6) = 18 := by
    rw [← hv, kd_wR, kd_al, if_neg (by rw [e3]; omega), kd_wR, kd_al, if_pos e1.symm, ln_wR, ln_al, if_neg (by rw [e3]; omega), ln_wR, ln_al, if_pos e1.symm]
    exact ⟨rfl, rfl⟩
  have k7 : kd_ v (t + 7) = 100 ∧ ln_ v (t + 7) = 18 := by
    rw [← hv, kd_wR, kd_al, if_pos e3.symm, ln_wR, ln_al, if_pos e3.symm]
    exact ⟨rfl, rfl⟩
  have iv : ∀ i, iv_ v t i = 0 := fun i => by
    rw [← hv, iv_wR, iv_al, if_neg (by rw [e3]; omega), iv_wR, iv_al, if_neg (by rw [e1]; omega), iv_wR, st.2.2.1, iv_al, if_neg (by omega)]
    exact hi i
  have sz : sz_ v = t + 8 := by rw [← hv, sz_wR, sz_al, e3]
  obtain ⟨f1, f2⟩ := Fn.same (v := v) (Or.inl a8) (fun a ha => S9 a (by rw [a9] at ha; simp at ha; omega) (by rw [a9] at ha; simp at ha; omega))
  have s1 := S9 (t + 1) (by omega) (by omega)
  have s2 := S9 (t + 1 + 1) (by omega) (by omega)
  have hp : pth v (t + 1) = [] := by unfold pth; rw [s1.2.2.1, a5]; rfl
  have ff : fpF v (t + 1 + 2) = [t + 1 + 2, t + 1 + 3, t + 1 + 4] := by rw [f2, a9]
  refine ⟨⟨t + 6, t + 7, 0, [], [t + 1, t + 2, t + 3, t + 4, t + 5], ⟨kv, r3, r4, k6.1, k6.2, k7.1, k7.2⟩, ?_, by rw [r2]; exact hp, by simp, by simp, fun x => by simp, fun a ha y => ?_⟩, iv 0, iv 1, sz, kv, fun a ha => ?_⟩
  · rw [r2]
    refine ⟨by rw [s1.1]; exact a1, ⟨by rw [s1.2.2.2, a2, s2.1]; exact a3, by rw [s1.2.2.2, a2, s2.2.1]; exact a4, by rw [s1.2.2.1, a5]; exact Int.le_refl _, by rw [s1.2.2.1, a5]; decide, by rw [hp]; simp⟩, [], [], by rw [s1.2.2.2, a7]; exact f1, Or.inl ⟨by rw [s1.2.2.2]; exact a6, rfl⟩, fun c hc => by simp at hc, rfl, ?_, ?_, Or.inl rfl⟩
    · rw [s1.2.2.2, a2, s1.2.2.2, a7, ff]; rfl
    · simp
  · have := hGl a y
    rcases ha with q | q | q
    · simp at q; omega
    · omega
    · omega
  · exact ((Sm.al (by omega)).tr (a11 a (by omega))).tr (S9 a (by omega) (by omega))
