set_option maxRecDepth 100000
section MORE
variable {X : Ctx_} {own : String} {cc : ByteArray} {ret : Option FieldType} {d mc ms : Nat} {Q : Option AV → Mem → Prop} {pc : Nat} {ls : List (Option AV)} {st : List AV} {u : Mem} {cu su : Nat}
theorem of_to (x : Int32) : Int32.ofInt x.toInt = x := Int32.ofInt_toInt x
theorem rg_of (x : Int32) : rng x.toInt := ⟨by have := Int32.le_toInt x; omega, by have := Int32.toInt_lt x; omega⟩
theorem z_i2l (ho : Ok_ X own cc ret d mc ms Q) {x : Int} (hd : decode cc pc = .ok (.i2l, 1)) (k : Z X (pc + 1) ls (aL (Int32.ofInt x).toInt64 :: st) u cu su) : Z X pc ls (aI x :: st) u cu su := by
  obtain ⟨p, l, e, R, s, m, args, below, meth, c, D, B, F⟩ := X
  obtain ⟨hx, hb, -⟩ := ho
  intro H locs la hR hS hL
  exact lv_i2l hx hb hd rfl (k H locs la hR hS hL)
theorem z_l2i (ho : Ok_ X own cc ret d mc ms Q) {x : Int64} (hd : decode cc pc = .ok (.l2i, 1)) (k : Z X (pc + 1) ls (aI x.toInt32.toInt :: st) u cu su) : Z X pc ls (aL x :: st) u cu su := by
  obtain ⟨p, l, e, R, s, m, args, below, meth, c, D, B, F⟩ := X
  obtain ⟨hx, hb, -⟩ := ho
  intro H locs la hR hS hL
  exact lv_l2i hx hb hd (of_to _).symm (k H locs la hR hS hL)
theorem z_lshr (ho : Ok_ X own cc ret d mc ms Q) {x : Int64} {y : Int} (hd : decode cc pc = .ok (.lshr, 1)) (k : Z X (pc + 1) ls (aL (x >>> ((Int32.ofInt y).toInt64 &&& 63)) :: st) u cu su) : Z X pc ls (aI y :: aL x :: st) u cu su := by
  obtain ⟨p, l, e, R, s, m, args, below, meth, c, D, B, F⟩ := X
  obtain ⟨hx, hb, -⟩ := ho
  intro H locs la hR hS hL
  exact lv_lshr hx hb hd rfl (k H locs la hR hS hL)
theorem z_lshl (ho : Ok_ X own cc ret d mc ms Q) {x : Int64} {y : Int} (hd : decode cc pc = .ok (.lshl, 1)) (k : Z X (pc + 1) ls (aL (x <<< ((Int32.ofInt y).toInt64 &&& 63)) :: st) u cu su) : Z X pc ls (aI y :: aL x :: st) u cu su := by
  obtain ⟨p, l, e, R, s, m, args, below, meth, c, D, B, F⟩ := X
  obtain ⟨hx, hb, -⟩ := ho
  intro H locs la hR hS hL
  exact lv_lshl hx hb hd rfl (k H locs la hR hS hL)
theorem z_land (ho : Ok_ X own cc ret d mc ms Q) {x y : Int64} (hd : decode cc pc = .ok (.land, 1)) (k : Z X (pc + 1) ls (aL (x &&& y) :: st) u cu su) : Z X pc ls (aL y :: aL x :: st) u cu su := by
  obtain ⟨p, l, e, R, s, m, args, below, meth, c, D, B, F⟩ := X
  obtain ⟨hx, hb, -⟩ := ho
  intro H locs la hR hS hL
  exact lv_land hx hb hd (k H locs la hR hS hL)
theorem z_lor (ho : Ok_ X own cc ret d mc ms Q) {x y : Int64} (hd : decode cc pc = .ok (.lor, 1)) (k : Z X (pc + 1) ls (aL (x ||| y) :: st) u cu su) : Z X pc ls (aL y :: aL x :: st) u cu su := by
  obtain ⟨p, l, e, R, s, m, args, below, meth, c, D, B, F⟩ := X
  obtain ⟨hx, hb, -⟩ := ho
  intro H locs la hR hS hL
  exact lv_lor hx hb hd (k H locs la hR hS hL)
theorem z_lcmp (ho : Ok_ X own cc ret d mc ms Q) {x y : Int64} (hd : decode cc pc = .ok (.lcmp, 1)) (k : ∀ z : Int, rng z → (z = 0 ↔ x = y) → Z X (pc + 1) ls (aI z :: st) u cu su) : Z X pc ls (aL y :: aL x :: st) u cu su := by
  have hz : (lg_cmp x y).toInt = 0 ↔ x = y := by
    unfold lg_cmp
    by_cases h : x = y
    · subst h; simp
    · by_cases h2 : x > y
      · simp [h, h2]
      · simp [h, h2]
  have k' := k _ (rg_of (lg_cmp x y)) hz
  obtain ⟨p, l, e, R, s, m, args, below, meth, c, D, B, F⟩ := X
  obtain ⟨hx, hb, -⟩ := ho
  intro H locs la hR hS hL
  have k2 := k' H locs la hR hS hL
  simp only [List.map_cons, tV, of_to] at k2
  exact W.lcmp hx hb hd k2
theorem z_ldc (ho : Ok_ X own cc ret d mc ms Q) {idx : Nat} {v : Int32} (hw : Cond.constant own idx v ∈ lw_all) (hd : decode cc pc = .ok (.ldc idx, 2)) {x : Int} (hx0 : Int32.ofInt x = v) (k : Z X (pc + 2) ls (aI x :: st) u cu su) : Z X pc ls st u cu su := by
  obtain ⟨p, l, e, R, s, m, args, below, meth, c, D, B, F⟩ := X
  obtain ⟨hx, hb, hret, hlk, hown, hts, hK, hB, hRm, hF⟩ := ho
  intro H locs la hR hS hL
  have k2 := k H locs la hR hS hL
  simp only [List.map_cons, tV, hx0] at k2
  exact lv_ldc hx hb hown (hts _ hw) hd k2
theorem z_ldc2 (ho : Ok_ X own cc ret d mc ms Q) {idx : Nat} {v : Int64} (hw : Cond.constantLong own idx v ∈ lw_all) (hd : decode cc pc = .ok (.ldc2_w idx, 3)) (k : Z X (pc + 3) ls (aL v :: st) u cu su) : Z X pc ls st u cu su := by
  obtain ⟨p, l, e, R, s, m, args, below, meth, c, D, B, F⟩ := X
  obtain ⟨hx, hb, hret, hlk, hown, hts, hK, hB, hRm, hF⟩ := ho
  intro H locs la hR hS hL
  exact lv_ldc2 hx hb hown (hts _ hw) hd (k H locs la hR hS hL)
theorem rV_rf (a : Nat) : rV a = va_rf (match a with | 0 => none | a + 1 => some a) := by cases a <;> rfl
theorem rf_inj {a b : Nat} : ((match a with | 0 => none | a + 1 => some a : Option Nat) = (match b with | 0 => none | b + 1 => some b : Option Nat)) ↔ a = b := by
  cases a <;> cases b <;> simp
theorem z_acmp_eq (ho : Ok_ X own cc ret d mc ms Q) {a b : Nat} {off : Int} {tgt : Nat} (hd : decode cc pc = .ok (.if_acmp .eq off, 3)) (ht : (pc : Int) + off = (tgt : Int)) (kt : a = b → Z X tgt ls st u cu su) (kf : a ≠ b → Z X (pc + 3) ls st u cu su) : Z X pc ls (aR b :: aR a :: st) u cu su := by
  obtain ⟨p, l, e, R, s, m, args, below, meth, c, D, B, F⟩ := X
  obtain ⟨hx, hb, -⟩ := ho
  intro H locs la hR hS hL
  simp only [List.map_cons, tV]
  rw [rV_rf a, rV_rf b]
  exact lv_acmp_eq hx hb hd ht (fun q => kt (rf_inj.mp q) H locs la hR hS hL) (fun q => kf (fun z => q (rf_inj.mpr z)) H locs la hR hS hL)
theorem z_tswIn (ho : Ok_ X own cc ret d mc ms Q) {x dflt lo hi off : Int} {offs : Array Int} {len tgt : Nat} (hd : decode cc pc = .ok (.tableswitch dflt lo hi offs, len)) (hr : rng x) (h1 : lo ≤ x) (h2 : x ≤ hi) (h3 : offs[(x - lo).toNat]? = some off) (ht : (pc : Int) + off = (tgt : Int)) (k : Z X tgt ls st u cu su) : Z X pc ls (aI x :: st) u cu su := by
  obtain ⟨p, l, e, R, s, m, args, below, meth, c, D, B, F⟩ := X
  obtain ⟨hx, hb, -⟩ := ho
  intro H locs la hR hS hL
  exact lv_tableIn hx hb hd (by rw [rg_toInt hr]; omega) (by rw [rg_toInt hr]; omega) (by rw [rg_toInt hr]; exact h3) ht (k H locs la hR hS hL)
theorem z_tswOut (ho : Ok_ X own cc ret d mc ms Q) {x dflt lo hi : Int} {offs : Array Int} {len tgt : Nat} (hd : decode cc pc = .ok (.tableswitch dflt lo hi offs, len)) (hr : rng x) (h : x < lo ∨ hi < x) (ht : (pc : Int) + dflt = (tgt : Int)) (k : Z X tgt ls st u cu su) : Z X pc ls (aI x :: st) u cu su := by
  obtain ⟨p, l, e, R, s, m, args, below, meth, c, D, B, F⟩ := X
  obtain ⟨hx, hb, -⟩ := ho
  intro H locs la hR hS hL
  exact lv_tableOut hx hb hd (by rw [rg_toInt hr]; exact h) ht (k H locs la hR hS hL)
theorem z_mmax (ho : Ok_ X own cc ret d mc ms Q) {idx : Nat} {x y : Int} (hN : Nl_ X ls.length) (hl : Cond.methodLink own idx yJ6_max ∈ lw_all) (hd : decode cc pc = .ok (.invokestatic idx, 3)) (hrx : rng x) (hry : rng y) (hdp : 1 ≤ d) (hcat : (st.map catA).sum ≤ 8) (hcu : cu ≤ mc) (hsu : su ≤ ms) (k : Z X (pc + 3) ls (aI (max x y) :: st) u cu su) : Z X pc ls (aI y :: aI x :: st) u cu su := by
  obtain ⟨p, l, e, R, s, m, args, below, meth, c, D, B, F⟩ := X
  obtain ⟨hx, hb, hret, hlk, hown, hts, hK, hB, hRm, hF⟩ := ho
  subst hRm
  intro H locs la hR hS hL
  have k2 := k H locs la hR hS hL
  refine va_mmax hx hb (show c.maxLocals = la.size from hN.trans hL.1.symm) hown (hts _ hl) (hts _ q605) (hts _ q77) (hts _ q606) hdp ?_ hcu hsu hd ?_
  · rw [rV_map]; show _ + 13 ≤ 40 * d; omega
  · have e : (if Int32.ofInt x < Int32.ofInt y then Int32.ofInt y else Int32.ofInt x) = Int32.ofInt (max x y) := by
      by_cases h : x < y
      · rw [if_pos ((rg_lt hrx hry).mpr h), Int.max_eq_right (by omega)]
      · rw [if_neg (fun q => h ((rg_lt hrx hry).mp q)), Int.max_eq_left (by omega)]
    rw [e]
    exact k2
theorem z_mmin (ho : Ok_ X own cc ret d mc ms Q) {idx : Nat} {x y : Int} (hN : Nl_ X ls.length) (hl : Cond.methodLink own idx yJ6_min ∈ lw_all) (hd : decode cc pc = .ok (.invokestatic idx, 3)) (hrx : rng x) (hry : rng y) (hdp : 1 ≤ d) (hcat : (st.map catA).sum ≤ 8) (hcu : cu ≤ mc) (hsu : su ≤ ms) (k : Z X (pc + 3) ls (aI (min x y) :: st) u cu su) : Z X pc ls (aI y :: aI x :: st) u cu su := by
  obtain ⟨p, l, e, R, s, m, args, below, meth, c, D, B, F⟩ := X
  obtain ⟨hx, hb, hret, hlk, hown, hts, hK, hB, hRm, hF⟩ := ho
  subst hRm
  intro H locs la hR hS hL
  have k2 := k H locs la hR hS hL
  refine va_mmin hx hb (show c.maxLocals = la.size from hN.trans hL.1.symm) hown (hts _ hl) (hts _ q401) (hts _ q77) (hts _ q402) hdp ?_ hcu hsu hd ?_
  · rw [rV_map]; show _ + 13 ≤ 40 * d; omega
  · have e : (if Int32.ofInt y < Int32.ofInt x then Int32.ofInt y else Int32.ofInt x) = Int32.ofInt (min x y) := by
      by_cases h : y < x
      · rw [if_pos ((rg_lt hry hrx).mpr h), Int.min_eq_right (by omega)]
      · rw [if_neg (fun q => h ((rg_lt hry hrx).mp q)), Int.min_eq_left (by omega)]
    rw [e]
    exact k2
/-- fewer locals are known -/
theorem z_weak {ls' : List (Option AV)} (hl : ls'.length = ls.length) (hw : ∀ (i : Nat) (v : AV), ls'[i]? = some (some v) → ls[i]? = some (some v)) (k : Z X pc ls' st u cu su) : Z X pc ls st u cu su := by
  obtain ⟨p, l, e, R, s, m, args, below, meth, c, D, B, F⟩ := X
  intro H locs la hR hS hL
  exact k H locs la hR hS (hL.weak hl hw)
def lsub_ : List (Option AV) → List (Option AV) → Prop
  | [], [] => True
  | none :: a, _ :: b => lsub_ a b
  | some v :: a, w :: b => w = some v ∧ lsub_ a b
  | _, _ => False
theorem lsub_ok : ∀ {a b : List (Option AV)}, lsub_ a b → a.length = b.length ∧ ∀ (i : Nat) (v : AV), a[i]? = some (some v) → b[i]? = some (some v)
  | [], [], _ => ⟨rfl, fun i v h => by simp at h⟩
  | none :: a, w :: b, h => by
    obtain ⟨h1, h2⟩ := lsub_ok (a := a) (b := b) h
    refine ⟨by simp [h1], fun i v hi => ?_⟩
    cases i with
    | zero => simp at hi
    | succ i => simpa using h2 i v (by simpa using hi)
  | some x :: a, w :: b, h => by
    obtain ⟨h0, h⟩ := h
    subst h0
    obtain ⟨h1, h2⟩ := lsub_ok (a := a) (b := b) h
    refine ⟨by simp [h1], fun i v hi => ?_⟩
    cases i with
    | zero => simpa using hi
    | succ i => simpa using h2 i v (by simpa using hi)
theorem z_wk {ls' : List (Option AV)} (h : lsub_ ls' ls) (k : Z X pc ls' st u cu su) : Z X pc ls st u cu su := z_weak (lsub_ok h).1 (lsub_ok h).2 k
theorem z_cu {cu' su' : Nat} (h1 : cu ≤ cu') (h2 : su ≤ su') (k : Z X pc ls st u cu' su') : Z X pc ls st u cu su := by
  obtain ⟨p, l, e, R, s, m, args, below, meth, c, D, B, F⟩ := X
  intro H locs la hR hS hL
  exact W.widen h1 h2 (k H locs la hR hS hL)
end MORE
