set_option maxRecDepth 100000
/-! ===== the law: rows that read the script; a compare of two equal answers ===== -/
/-- the script: L ints at the cell b, ahead of all known cells -/
def Sx_ (X : Ctx_) (b L : Nat) (xs : Nat → Int32) : Prop := match X with
  | (_, _, _, _, s, _, _, _, _, _, _, B, _) => va_X b L xs s s.heap ∧ b < s.heap.size ∧ b < B ∧ L ≤ 256
section SCR
variable {X : Ctx_} {own : String} {cc : ByteArray} {ret : Option FieldType} {d mc ms : Nat} {Q : Option AV → Mem → Prop} {pc : Nat} {ls : List (Option AV)} {st : List AV} {u : Mem} {cu su : Nat}
theorem z_sld (ho : Ok_ X own cc ret d mc ms Q) {b L : Nat} {xs : Nat → Int32} (hs : Sx_ X b L xs) {i : Int} (hd : decode cc pc = .ok (.iaload, 1)) (h0 : 0 ≤ i) (h1 : i < L) (kk : Z X (pc + 1) ls (aI (xs i.toNat).toInt :: st) u cu su) : Z X pc ls (aI i :: aR (b + 1) :: st) u cu su := by
  obtain ⟨p, l, e, R, s, m, args, below, meth, c, D, B, F⟩ := X
  obtain ⟨hx, hb, hret, hlk, hown, hts, hK, hB, hRm, hF⟩ := ho
  obtain ⟨hX, hbl, hbB, hL⟩ := hs
  intro H locs la hR hS hLv
  have hin := ix_in h0 h1 (by omega)
  rw [Int.toNat_natCast] at hin
  refine va_sld hx hb hX hbl (by omega) hS hin hd ?_
  rw [ix_cl h0 h1 (by omega)]
  have h := kk H locs la hR hS hLv
  have e : tV (aI (xs i.toNat).toInt) = .int (xs i.toNat) := by
    show Value.int (Int32.ofInt (xs i.toNat).toInt) = _
    rw [Int32.ofInt_toInt]
  rw [List.map_cons, e] at h
  exact h
theorem z_slen (ho : Ok_ X own cc ret d mc ms Q) {b L : Nat} {xs : Nat → Int32} (hs : Sx_ X b L xs) (hd : decode cc pc = .ok (.arraylength, 1)) (kk : Z X (pc + 1) ls (aI (L : Int) :: st) u cu su) : Z X pc ls (aR (b + 1) :: st) u cu su := by
  obtain ⟨p, l, e, R, s, m, args, below, meth, c, D, B, F⟩ := X
  obtain ⟨hx, hb, hret, hlk, hown, hts, hK, hB, hRm, hF⟩ := ho
  obtain ⟨hX, hbl, hbB, hL⟩ := hs
  intro H locs la hR hS hLv
  refine va_slen hx hb hX hbl (by omega) hS hd ?_
  exact kk H locs la hR hS hLv
theorem rg_i32 (w : Int32) : rng w.toInt := by
  have h1 := w.le_toInt
  have h2 := w.toInt_lt
  unfold rng
  omega
/-- a number against itself, of whatever size -/
theorem z_same {x y : Int} (ho : Ok_ X own cc ret d mc ms Q) {off : Int} {tgt : Nat} (hd : decode cc pc = .ok (.if_icmp .eq off, 3)) (ht : (pc : Int) + off = (tgt : Int)) (he : x = y) (kt : Z X tgt ls st u cu su) : Z X pc ls (aI y :: aI x :: st) u cu su := by
  obtain ⟨p, l, e, R, s, m, args, below, meth, c, D, B, F⟩ := X
  obtain ⟨hx, hb, hret, hlk, hown, hts, hK, hB, hRm, hF⟩ := ho
  subst he
  intro H locs la hR hS hL
  exact lv_icmp_eq hx hb hd ht (fun _ => kt H locs la hR hS hL) (fun q => absurd rfl q)
end SCR
