set_option maxRecDepth 100000
theorem zx_div {x y : Int} (h0 : 0 ≤ x) (h1 : x < 2147483648) (h2 : 0 < y) (h3 : y < 2147483648) : Int32.ofInt (x / y) = Int32.ofInt x / Int32.ofInt y := by
  rw [← Int32.ofInt_tdiv (show (-2147483648 : Int) ≤ x by omega) (show x ≤ (2147483647 : Int) by omega) (show (-2147483648 : Int) ≤ y by omega) (show y ≤ (2147483647 : Int) by omega), Int.tdiv_eq_ediv_of_nonneg h0]
theorem zx_rem {x y : Int} (h0 : 0 ≤ x) (h1 : x < 2147483648) (h2 : 0 < y) (h3 : y < 2147483648) : Int32.ofInt (x % y) = Int32.ofInt x - Int32.ofInt x / Int32.ofInt y * Int32.ofInt y := by
  rw [← zx_div h0 h1 h2 h3, ← Int32.ofInt_mul, ← Int32.ofInt_sub]
  congr 1
  have := Int.emod_add_mul_ediv x y
  rw [Int.mul_comm] at this
  omega
theorem zx_nI (n : Nat) : nI n = Int32.ofInt (n : Int) := rfl
theorem zx_tn (x : Int) : (Int32.ofInt x).toBitVec.toNat = (x % 4294967296).toNat := by
  show (BitVec.ofInt 32 x).toNat = _
  rw [BitVec.toNat_ofInt]
  rfl
theorem zx_low (x : Int) (w : Nat) (hw : w ≤ 32) : nI ((Int32.ofInt x).toBitVec.toNat % 2 ^ w) = Int32.ofInt (x % 2 ^ w) := by
  rw [zx_tn, zx_nI]
  congr 1
  have h1 : 0 ≤ x % 4294967296 := by omega
  have hd : (2 ^ w : Int) ∣ 4294967296 := ⟨2 ^ (32 - w), by rw [← Int.pow_add, show w + (32 - w) = 32 by omega]; rfl⟩
  rw [Int.natCast_emod, Int.toNat_of_nonneg h1, show ((2 ^ w : Nat) : Int) = 2 ^ w by simp, Int.emod_emod_of_dvd x hd]
theorem zx_mask : ∀ w : Nat, w ≤ 30 → (Int32.ofInt (2 ^ w - 1)).toBitVec.toNat = 2 ^ w - 1 := by decide +kernel
theorem zx_and (x : Int) (w : Nat) (hw : w ≤ 30) : Int32.ofInt x &&& Int32.ofInt (2 ^ w - 1) = Int32.ofInt (x % 2 ^ w) := by
  rw [pk_and _ w (zx_mask w hw), zx_low x w (by omega)]
theorem zx_sm : ∀ n : Nat, n < 32 → ((Int32.ofInt (n : Int) &&& 31).toBitVec.smod 32).toNat = n := by decide +kernel
theorem zx_shr {x y : Int} (h0 : 0 ≤ x) (h1 : x < 2147483648) (h2 : 0 ≤ y) (h3 : y < 32) : Int32.ofInt x >>> (Int32.ofInt y &&& 31) = Int32.ofInt (x / 2 ^ y.toNat) := by
  obtain ⟨n, rfl⟩ := Int.eq_ofNat_of_zero_le h0
  obtain ⟨k, rfl⟩ := Int.eq_ofNat_of_zero_le h2
  have := pk_shrN (n := n) (by omega) (Int32.ofInt (k : Int) &&& 31) k (zx_sm k (by omega))
  rw [zx_nI] at this
  rw [this, zx_nI]
  congr 1
theorem zx_char (x : Int) : ((Int32.ofInt x).toUInt32 % 65536).toInt32 = Int32.ofInt (x % 65536) := by
  rw [pk_char, show (65536 : Nat) = 2 ^ 16 from rfl, zx_low x 16 (by omega)]
  rfl
theorem zx_b : ∀ n : Nat, n < 256 → (Int32.ofInt ((n : Int) - 128)).toInt8.toInt32 = Int32.ofInt ((n : Int) - 128) := by decide +kernel
theorem zx_byte {x : Int} (h0 : -128 ≤ x) (h1 : x < 128) : (Int32.ofInt x).toInt8.toInt32 = Int32.ofInt x := by
  have := zx_b (x + 128).toNat (by omega)
  rwa [show (((x + 128).toNat : Nat) : Int) - 128 = x by omega] at this
section ROWS
variable {X : Ctx_} {own : String} {cc : ByteArray} {ret : Option FieldType} {d mc ms : Nat} {Q : Option AV → Mem → Prop} {pc : Nat} {ls : List (Option AV)} {st : List AV} {u : Mem} {cu su : Nat}
theorem z_iconst {n : Int} (ho : Ok_ X own cc ret d mc ms Q) (hd : decode cc pc = .ok (.iconst n, 1)) (k : Z X (pc + 1) ls (aI n :: st) u cu su) : Z X pc ls st u cu su := by
  obtain ⟨p, l, e, R, s, m, args, below, meth, c, D, B, F⟩ := X
  obtain ⟨hx, hb, hret, hlk, hown, hts, hK, hB, hRm, hF⟩ := ho
  intro H locs la hR hS hL
  exact lv_iconst hx hb hd rfl (k H locs la hR hS hL)
theorem z_bipush {n : Int} (ho : Ok_ X own cc ret d mc ms Q) (hd : decode cc pc = .ok (.bipush n, 2)) (hn : (Int8.ofInt n).toInt32 = Int32.ofInt n) (k : Z X (pc + 2) ls (aI n :: st) u cu su) : Z X pc ls st u cu su := by
  obtain ⟨p, l, e, R, s, m, args, below, meth, c, D, B, F⟩ := X
  obtain ⟨hx, hb, hret, hlk, hown, hts, hK, hB, hRm, hF⟩ := ho
  intro H locs la hR hS hL
  exact lv_bipush hx hb hd hn (k H locs la hR hS hL)
theorem z_sipush {n : Int} (ho : Ok_ X own cc ret d mc ms Q) (hd : decode cc pc = .ok (.sipush n, 3)) (hn : (Int16.ofInt n).toInt32 = Int32.ofInt n) (k : Z X (pc + 3) ls (aI n :: st) u cu su) : Z X pc ls st u cu su := by
  obtain ⟨p, l, e, R, s, m, args, below, meth, c, D, B, F⟩ := X
  obtain ⟨hx, hb, hret, hlk, hown, hts, hK, hB, hRm, hF⟩ := ho
  intro H locs la hR hS hL
  exact lv_sipush hx hb hd hn (k H locs la hR hS hL)
theorem z_null (ho : Ok_ X own cc ret d mc ms Q) (hd : decode cc pc = .ok (.aconst_null, 1)) (k : Z X (pc + 1) ls (aR 0 :: st) u cu su) : Z X pc ls st u cu su := by
  obtain ⟨p, l, e, R, s, m, args, below, meth, c, D, B, F⟩ := X
  obtain ⟨hx, hb, hret, hlk, hown, hts, hK, hB, hRm, hF⟩ := ho
  intro H locs la hR hS hL
  exact lv_null hx hb hd (k H locs la hR hS hL)
theorem z_iload_n {j : Fin 4} {x : Int} (ho : Ok_ X own cc ret d mc ms Q) (hd : decode cc pc = .ok (.iload_n j, 1)) (hl : ls[(j : Nat)]? = some (some (aI x))) (k : Z X (pc + 1) ls (aI x :: st) u cu su) : Z X pc ls st u cu su := by
  obtain ⟨p, l, e, R, s, m, args, below, meth, c, D, B, F⟩ := X
  obtain ⟨hx, hb, hret, hlk, hown, hts, hK, hB, hRm, hF⟩ := ho
  intro H locs la hR hS hL
  exact lv_iload_n hx hb hd rfl (hL.2.2 _ _ hl) (k H locs la hR hS hL)
theorem z_iload {j : Nat} {x : Int} (ho : Ok_ X own cc ret d mc ms Q) (hd : decode cc pc = .ok (.iload j, 2)) (hl : ls[j]? = some (some (aI x))) (k : Z X (pc + 2) ls (aI x :: st) u cu su) : Z X pc ls st u cu su := by
  obtain ⟨p, l, e, R, s, m, args, below, meth, c, D, B, F⟩ := X
  obtain ⟨hx, hb, hret, hlk, hown, hts, hK, hB, hRm, hF⟩ := ho
  intro H locs la hR hS hL
  exact lv_iload hx hb hd (hL.2.2 _ _ hl) (k H locs la hR hS hL)
theorem z_lload_n {j : Fin 4} {x : Int64} (ho : Ok_ X own cc ret d mc ms Q) (hd : decode cc pc = .ok (.lload_n j, 1)) (hl : ls[(j : Nat)]? = some (some (aL x))) (k : Z X (pc + 1) ls (aL x :: st) u cu su) : Z X pc ls st u cu su := by
  obtain ⟨p, l, e, R, s, m, args, below, meth, c, D, B, F⟩ := X
  obtain ⟨hx, hb, hret, hlk, hown, hts, hK, hB, hRm, hF⟩ := ho
  intro H locs la hR hS hL
  exact lv_lload_n hx hb hd rfl (hL.2.2 _ _ hl) (k H locs la hR hS hL)
theorem z_aload_n {j : Fin 4} {x : Nat} (ho : Ok_ X own cc ret d mc ms Q) (hd : decode cc pc = .ok (.aload_n j, 1)) (hl : ls[(j : Nat)]? = some (some (aR x))) (k : Z X (pc + 1) ls (aR x :: st) u cu su) : Z X pc ls st u cu su := by
  obtain ⟨p, l, e, R, s, m, args, below, meth, c, D, B, F⟩ := X
  obtain ⟨hx, hb, hret, hlk, hown, hts, hK, hB, hRm, hF⟩ := ho
  intro H locs la hR hS hL
  cases x with
  | zero => exact lv_aload_nN hx hb hd rfl (hL.2.2 _ _ hl) (k H locs la hR hS hL)
  | succ x => exact lv_aload_n hx hb hd rfl (hL.2.2 _ _ hl) (k H locs la hR hS hL)
theorem z_aload {j x : Nat} (ho : Ok_ X own cc ret d mc ms Q) (hd : decode cc pc = .ok (.aload j, 2)) (hl : ls[j]? = some (some (aR x))) (k : Z X (pc + 2) ls (aR x :: st) u cu su) : Z X pc ls st u cu su := by
  obtain ⟨p, l, e, R, s, m, args, below, meth, c, D, B, F⟩ := X
  obtain ⟨hx, hb, hret, hlk, hown, hts, hK, hB, hRm, hF⟩ := ho
  intro H locs la hR hS hL
  cases x with
  | zero => exact lv_aloadN hx hb hd (hL.2.2 _ _ hl) (k H locs la hR hS hL)
  | succ x => exact lv_aload hx hb hd (hL.2.2 _ _ hl) (k H locs la hR hS hL)
theorem z_istore_n {j : Fin 4} {x : Int} (ho : Ok_ X own cc ret d mc ms Q) (hd : decode cc pc = .ok (.istore_n j, 1)) (hn : (j : Nat) < ls.length) (hk : okst_ ls (j : Nat) = true) (k : Z X (pc + 1) (ls.set (j : Nat) (some (aI x))) st u cu su) : Z X pc ls (aI x :: st) u cu su := by
  obtain ⟨p, l, e, R, s, m, args, below, meth, c, D, B, F⟩ := X
  obtain ⟨hx, hb, hret, hlk, hown, hts, hK, hB, hRm, hF⟩ := ho
  intro H locs la hR hS hL
  exact lv_istore_n hx hb hd rfl hL.has hn rfl (fun la' h' => k H locs la' hR hS (Lv_.set (v := aI x) hn hk h'))
theorem z_istore {j : Nat} {x : Int} (ho : Ok_ X own cc ret d mc ms Q) (hd : decode cc pc = .ok (.istore j, 2)) (hn : j < ls.length) (hk : okst_ ls j = true) (k : Z X (pc + 2) (ls.set j (some (aI x))) st u cu su) : Z X pc ls (aI x :: st) u cu su := by
  obtain ⟨p, l, e, R, s, m, args, below, meth, c, D, B, F⟩ := X
  obtain ⟨hx, hb, hret, hlk, hown, hts, hK, hB, hRm, hF⟩ := ho
  intro H locs la hR hS hL
  exact lv_istore hx hb hd hL.has hn rfl (fun la' h' => k H locs la' hR hS (Lv_.set (v := aI x) hn hk h'))
theorem z_astore_n {j : Fin 4} {x : Nat} (ho : Ok_ X own cc ret d mc ms Q) (hd : decode cc pc = .ok (.astore_n j, 1)) (hn : (j : Nat) < ls.length) (hk : okst_ ls (j : Nat) = true) (k : Z X (pc + 1) (ls.set (j : Nat) (some (aR x))) st u cu su) : Z X pc ls (aR x :: st) u cu su := by
  obtain ⟨p, l, e, R, s, m, args, below, meth, c, D, B, F⟩ := X
  obtain ⟨hx, hb, hret, hlk, hown, hts, hK, hB, hRm, hF⟩ := ho
  intro H locs la hR hS hL
  cases x with
  | zero => exact lv_astore_nN hx hb hd rfl hL.has hn rfl (fun la' h' => k H locs la' hR hS (Lv_.set (v := aR 0) hn hk h'))
  | succ x => exact lv_astore_n hx hb hd rfl hL.has hn rfl (fun la' h' => k H locs la' hR hS (Lv_.set (v := aR (x + 1)) hn hk h'))
theorem z_astore {j x : Nat} (ho : Ok_ X own cc ret d mc ms Q) (hd : decode cc pc = .ok (.astore j, 2)) (hn : j < ls.length) (hk : okst_ ls j = true) (k : Z X (pc + 2) (ls.set j (some (aR x))) st u cu su) : Z X pc ls (aR x :: st) u cu su := by
  obtain ⟨p, l, e, R, s, m, args, below, meth, c, D, B, F⟩ := X
  obtain ⟨hx, hb, hret, hlk, hown, hts, hK, hB, hRm, hF⟩ := ho
  intro H locs la hR hS hL
  cases x with
  | zero => exact lv_astoreN hx hb hd hL.has hn rfl (fun la' h' => k H locs la' hR hS (Lv_.set (v := aR 0) hn hk h'))
  | succ x => exact lv_astore hx hb hd hL.has hn rfl (fun la' h' => k H locs la' hR hS (Lv_.set (v := aR (x + 1)) hn hk h'))
theorem z_iinc {j : Nat} {x n : Int} (ho : Ok_ X own cc ret d mc ms Q) (hd : decode cc pc = .ok (.iinc j n, 3)) (hl : ls[j]? = some (some (aI x))) (hk : okst_ ls j = true) (k : Z X (pc + 3) (ls.set j (some (aI (x + n)))) st u cu su) : Z X pc ls st u cu su := by
  obtain ⟨p, l, e, R, s, m, args, below, meth, c, D, B, F⟩ := X
  obtain ⟨hx, hb, hret, hlk, hown, hts, hK, hB, hRm, hF⟩ := ho
  intro H locs la hR hS hL
  have hn : j < ls.length := (List.getElem?_eq_some_iff.mp hl).1
  have hm : (j, tV (aI x)) ∈ asc_ ls := asc_mem.mpr ⟨aI x, hl, rfl⟩
  obtain ⟨i, hi⟩ := List.getElem?_of_mem hm
  exact lv_iinc hx hb hd hL.has hi (Int32.ofInt_add x n).symm hn rfl (fun la' h' => k H locs la' hR hS (Lv_.set (v := aI (x + n)) hn hk h'))
theorem z_iadd {x y : Int} (ho : Ok_ X own cc ret d mc ms Q) (hd : decode cc pc = .ok (.iadd, 1)) (k : Z X (pc + 1) ls (aI (x + y) :: st) u cu su) : Z X pc ls (aI y :: aI x :: st) u cu su := by
  obtain ⟨p, l, e, R, s, m, args, below, meth, c, D, B, F⟩ := X
  obtain ⟨hx, hb, hret, hlk, hown, hts, hK, hB, hRm, hF⟩ := ho
  intro H locs la hR hS hL
  have k' := k H locs la hR hS hL
  simp only [List.map_cons, tV, Int32.ofInt_add] at k'
  exact lv_iadd hx hb hd k'
theorem z_isub {x y : Int} (ho : Ok_ X own cc ret d mc ms Q) (hd : decode cc pc = .ok (.isub, 1)) (k : Z X (pc + 1) ls (aI (x - y) :: st) u cu su) : Z X pc ls (aI y :: aI x :: st) u cu su := by
  obtain ⟨p, l, e, R, s, m, args, below, meth, c, D, B, F⟩ := X
  obtain ⟨hx, hb, hret, hlk, hown, hts, hK, hB, hRm, hF⟩ := ho
  intro H locs la hR hS hL
  have k' := k H locs la hR hS hL
  simp only [List.map_cons, tV, Int32.ofInt_sub] at k'
  exact lv_isub hx hb hd k'
theorem z_imul {x y : Int} (ho : Ok_ X own cc ret d mc ms Q) (hd : decode cc pc = .ok (.imul, 1)) (k : Z X (pc + 1) ls (aI (x * y) :: st) u cu su) : Z X pc ls (aI y :: aI x :: st) u cu su := by
  obtain ⟨p, l, e, R, s, m, args, below, meth, c, D, B, F⟩ := X
  obtain ⟨hx, hb, hret, hlk, hown, hts, hK, hB, hRm, hF⟩ := ho
  intro H locs la hR hS hL
  have k' := k H locs la hR hS hL
  simp only [List.map_cons, tV, Int32.ofInt_mul] at k'
  exact lv_imul hx hb hd k'
theorem z_ineg {x : Int} (ho : Ok_ X own cc ret d mc ms Q) (hd : decode cc pc = .ok (.ineg, 1)) (k : Z X (pc + 1) ls (aI (-x) :: st) u cu su) : Z X pc ls (aI x :: st) u cu su := by
  obtain ⟨p, l, e, R, s, m, args, below, meth, c, D, B, F⟩ := X
  obtain ⟨hx, hb, hret, hlk, hown, hts, hK, hB, hRm, hF⟩ := ho
  intro H locs la hR hS hL
  have k' := k H locs la hR hS hL
  simp only [List.map_cons, tV, Int32.ofInt_neg] at k'
  exact lv_ineg hx hb hd k'
theorem z_idiv {x y : Int} (ho : Ok_ X own cc ret d mc ms Q) (hd : decode cc pc = .ok (.idiv, 1)) (h0 : 0 ≤ x) (h1 : x < 2147483648) (h2 : 0 < y) (h3 : y < 2147483648) (k : Z X (pc + 1) ls (aI (x / y) :: st) u cu su) : Z X pc ls (aI y :: aI x :: st) u cu su := by
  obtain ⟨p, l, e, R, s, m, args, below, meth, c, D, B, F⟩ := X
  obtain ⟨hx, hb, hret, hlk, hown, hts, hK, hB, hRm, hF⟩ := ho
  intro H locs la hR hS hL
  have k' := k H locs la hR hS hL
  simp only [List.map_cons, tV, zx_div h0 h1 h2 h3] at k'
  exact lv_idiv hx hb hd (fun q => by rw [show (0 : Int32) = Int32.ofInt 0 from rfl, rg_eq (by unfold rng; omega) rg_0] at q; omega) k'
theorem z_irem {x y : Int} (ho : Ok_ X own cc ret d mc ms Q) (hd : decode cc pc = .ok (.irem, 1)) (h0 : 0 ≤ x) (h1 : x < 2147483648) (h2 : 0 < y) (h3 : y < 2147483648) (k : Z X (pc + 1) ls (aI (x % y) :: st) u cu su) : Z X pc ls (aI y :: aI x :: st) u cu su := by
  obtain ⟨p, l, e, R, s, m, args, below, meth, c, D, B, F⟩ := X
  obtain ⟨hx, hb, hret, hlk, hown, hts, hK, hB, hRm, hF⟩ := ho
  intro H locs la hR hS hL
  have k' := k H locs la hR hS hL
  simp only [List.map_cons, tV, zx_rem h0 h1 h2 h3] at k'
  exact lv_irem hx hb hd (fun q => by rw [show (0 : Int32) = Int32.ofInt 0 from rfl, rg_eq (by unfold rng; omega) rg_0] at q; omega) k'
theorem z_iand {x y : Int} (ho : Ok_ X own cc ret d mc ms Q) (w : Nat) (hw : w ≤ 30) (hd : decode cc pc = .ok (.iand, 1)) (hy : y = 2 ^ w - 1) (k : Z X (pc + 1) ls (aI (x % 2 ^ w) :: st) u cu su) : Z X pc ls (aI y :: aI x :: st) u cu su := by
  obtain ⟨p, l, e, R, s, m, args, below, meth, c, D, B, F⟩ := X
  obtain ⟨hx, hb, hret, hlk, hown, hts, hK, hB, hRm, hF⟩ := ho
  intro H locs la hR hS hL
  have k' := k H locs la hR hS hL
  simp only [List.map_cons, tV] at k'
  rw [← zx_and x w hw, ← hy] at k'
  exact lv_iand hx hb hd k'
theorem z_ishr {x y : Int} (ho : Ok_ X own cc ret d mc ms Q) (hd : decode cc pc = .ok (.ishr, 1)) (h0 : 0 ≤ x) (h1 : x < 2147483648) (h2 : 0 ≤ y) (h3 : y < 32) (k : Z X (pc + 1) ls (aI (x / 2 ^ y.toNat) :: st) u cu su) : Z X pc ls (aI y :: aI x :: st) u cu su := by
  obtain ⟨p, l, e, R, s, m, args, below, meth, c, D, B, F⟩ := X
  obtain ⟨hx, hb, hret, hlk, hown, hts, hK, hB, hRm, hF⟩ := ho
  intro H locs la hR hS hL
  have k' := k H locs la hR hS hL
  simp only [List.map_cons, tV] at k'
  rw [← zx_shr h0 h1 h2 h3] at k'
  exact lv_ishr hx hb hd k'
theorem z_i2c {x : Int} (ho : Ok_ X own cc ret d mc ms Q) (hd : decode cc pc = .ok (.i2c, 1)) (k : Z X (pc + 1) ls (aI (x % 65536) :: st) u cu su) : Z X pc ls (aI x :: st) u cu su := by
  obtain ⟨p, l, e, R, s, m, args, below, meth, c, D, B, F⟩ := X
  obtain ⟨hx, hb, hret, hlk, hown, hts, hK, hB, hRm, hF⟩ := ho
  intro H locs la hR hS hL
  exact lv_i2c hx hb hd (zx_char x) (k H locs la hR hS hL)
theorem z_i2b {x : Int} (ho : Ok_ X own cc ret d mc ms Q) (hd : decode cc pc = .ok (.i2b, 1)) (h0 : -128 ≤ x) (h1 : x < 128) (k : Z X (pc + 1) ls (aI x :: st) u cu su) : Z X pc ls (aI x :: st) u cu su := by
  obtain ⟨p, l, e, R, s, m, args, below, meth, c, D, B, F⟩ := X
  obtain ⟨hx, hb, hret, hlk, hown, hts, hK, hB, hRm, hF⟩ := ho
  intro H locs la hR hS hL
  exact lv_i2b hx hb hd (zx_byte h0 h1) (k H locs la hR hS hL)
theorem z_dup {v : AV} (ho : Ok_ X own cc ret d mc ms Q) (hd : decode cc pc = .ok (.dup, 1)) (hc : catA v = 1) (k : Z X (pc + 1) ls (v :: v :: st) u cu su) : Z X pc ls (v :: st) u cu su := by
  obtain ⟨p, l, e, R, s, m, args, below, meth, c, D, B, F⟩ := X
  obtain ⟨hx, hb, hret, hlk, hown, hts, hK, hB, hRm, hF⟩ := ho
  intro H locs la hR hS hL
  exact lv_dup hx hb hd (by rw [catA_eq]; exact hc) (k H locs la hR hS hL)
theorem z_pop {v : AV} (ho : Ok_ X own cc ret d mc ms Q) (hd : decode cc pc = .ok (.pop, 1)) (hc : catA v = 1) (k : Z X (pc + 1) ls st u cu su) : Z X pc ls (v :: st) u cu su := by
  obtain ⟨p, l, e, R, s, m, args, below, meth, c, D, B, F⟩ := X
  obtain ⟨hx, hb, hret, hlk, hown, hts, hK, hB, hRm, hF⟩ := ho
  intro H locs la hR hS hL
  exact lv_pop hx hb hd (by rw [catA_eq]; exact hc) (k H locs la hR hS hL)
theorem z_dup_x1 {v w : AV} (ho : Ok_ X own cc ret d mc ms Q) (hd : decode cc pc = .ok (.dup_x1, 1)) (hc : catA v = 1) (hc2 : catA w = 1) (k : Z X (pc + 1) ls (v :: w :: v :: st) u cu su) : Z X pc ls (v :: w :: st) u cu su := by
  obtain ⟨p, l, e, R, s, m, args, below, meth, c, D, B, F⟩ := X
  obtain ⟨hx, hb, hret, hlk, hown, hts, hK, hB, hRm, hF⟩ := ho
  intro H locs la hR hS hL
  exact lv_dup_x1 hx hb hd (by rw [catA_eq]; exact hc) (by rw [catA_eq]; exact hc2) (k H locs la hR hS hL)
theorem z_dup2 {v w : AV} (ho : Ok_ X own cc ret d mc ms Q) (hd : decode cc pc = .ok (.dup2, 1)) (hc : catA v = 1) (hc2 : catA w = 1) (k : Z X (pc + 1) ls (v :: w :: v :: w :: st) u cu su) : Z X pc ls (v :: w :: st) u cu su := by
  obtain ⟨p, l, e, R, s, m, args, below, meth, c, D, B, F⟩ := X
  obtain ⟨hx, hb, hret, hlk, hown, hts, hK, hB, hRm, hF⟩ := ho
  intro H locs la hR hS hL
  exact lv_dup2_11 hx hb hd (by rw [catA_eq]; exact hc) (by rw [catA_eq]; exact hc2) (k H locs la hR hS hL)
theorem z_icmp_eq {x y : Int} (ho : Ok_ X own cc ret d mc ms Q) {off : Int} {tgt : Nat} (hd : decode cc pc = .ok (.if_icmp .eq off, 3)) (ht : (pc : Int) + off = (tgt : Int)) (hrx : rng x) (hry : rng y) (kt : x = y → Z X tgt ls st u cu su) (kf : ¬ x = y → Z X (pc + 3) ls st u cu su) : Z X pc ls (aI y :: aI x :: st) u cu su := by
  obtain ⟨p, l, e, R, s, m, args, below, meth, c, D, B, F⟩ := X
  obtain ⟨hx, hb, hret, hlk, hown, hts, hK, hB, hRm, hF⟩ := ho
  intro H locs la hR hS hL
  exact lv_icmp_eq hx hb hd ht (fun q => kt ((rg_eq hrx hry).mp q) H locs la hR hS hL) (fun q => kf (fun z => q ((rg_eq hrx hry).mpr z)) H locs la hR hS hL)
theorem z_if_eq {x : Int} (ho : Ok_ X own cc ret d mc ms Q) {off : Int} {tgt : Nat} (hd : decode cc pc = .ok (.ifCond .eq off, 3)) (ht : (pc : Int) + off = (tgt : Int)) (hrx : rng x) (kt : x = 0 → Z X tgt ls st u cu su) (kf : ¬ x = 0 → Z X (pc + 3) ls st u cu su) : Z X pc ls (aI x :: st) u cu su := by
  obtain ⟨p, l, e, R, s, m, args, below, meth, c, D, B, F⟩ := X
  obtain ⟨hx, hb, hret, hlk, hown, hts, hK, hB, hRm, hF⟩ := ho
  intro H locs la hR hS hL
  exact lv_if_eq hx hb hd ht (fun q => kt ((rg_eq hrx rg_0).mp q) H locs la hR hS hL) (fun q => kf (fun z => q ((rg_eq hrx rg_0).mpr z)) H locs la hR hS hL)
theorem z_icmp_ne {x y : Int} (ho : Ok_ X own cc ret d mc ms Q) {off : Int} {tgt : Nat} (hd : decode cc pc = .ok (.if_icmp .ne off, 3)) (ht : (pc : Int) + off = (tgt : Int)) (hrx : rng x) (hry : rng y) (kt : ¬ x = y → Z X tgt ls st u cu su) (kf : x = y → Z X (pc + 3) ls st u cu su) : Z X pc ls (aI y :: aI x :: st) u cu su := by
  obtain ⟨p, l, e, R, s, m, args, below, meth, c, D, B, F⟩ := X
  obtain ⟨hx, hb, hret, hlk, hown, hts, hK, hB, hRm, hF⟩ := ho
  intro H locs la hR hS hL
  exact lv_icmp_ne hx hb hd ht (fun q => kt (fun z => q ((rg_eq hrx hry).mpr z)) H locs la hR hS hL) (fun q => kf ((rg_eq hrx hry).mp q) H locs la hR hS hL)
theorem z_if_ne {x : Int} (ho : Ok_ X own cc ret d mc ms Q) {off : Int} {tgt : Nat} (hd : decode cc pc = .ok (.ifCond .ne off, 3)) (ht : (pc : Int) + off = (tgt : Int)) (hrx : rng x) (kt : ¬ x = 0 → Z X tgt ls st u cu su) (kf : x = 0 → Z X (pc + 3) ls st u cu su) : Z X pc ls (aI x :: st) u cu su := by
  obtain ⟨p, l, e, R, s, m, args, below, meth, c, D, B, F⟩ := X
  obtain ⟨hx, hb, hret, hlk, hown, hts, hK, hB, hRm, hF⟩ := ho
  intro H locs la hR hS hL
  exact lv_if_ne hx hb hd ht (fun q => kt (fun z => q ((rg_eq hrx rg_0).mpr z)) H locs la hR hS hL) (fun q => kf ((rg_eq hrx rg_0).mp q) H locs la hR hS hL)
theorem z_icmp_lt {x y : Int} (ho : Ok_ X own cc ret d mc ms Q) {off : Int} {tgt : Nat} (hd : decode cc pc = .ok (.if_icmp .lt off, 3)) (ht : (pc : Int) + off = (tgt : Int)) (hrx : rng x) (hry : rng y) (kt : x < y → Z X tgt ls st u cu su) (kf : y ≤ x → Z X (pc + 3) ls st u cu su) : Z X pc ls (aI y :: aI x :: st) u cu su := by
  obtain ⟨p, l, e, R, s, m, args, below, meth, c, D, B, F⟩ := X
  obtain ⟨hx, hb, hret, hlk, hown, hts, hK, hB, hRm, hF⟩ := ho
  intro H locs la hR hS hL
  exact lv_icmp_lt hx hb hd ht (fun q => kt ((rg_lt hrx hry).mp q) H locs la hR hS hL) (fun q => kf (Int.not_lt.mp (fun z => q ((rg_lt hrx hry).mpr z))) H locs la hR hS hL)
theorem z_if_lt {x : Int} (ho : Ok_ X own cc ret d mc ms Q) {off : Int} {tgt : Nat} (hd : decode cc pc = .ok (.ifCond .lt off, 3)) (ht : (pc : Int) + off = (tgt : Int)) (hrx : rng x) (kt : x < 0 → Z X tgt ls st u cu su) (kf : 0 ≤ x → Z X (pc + 3) ls st u cu su) : Z X pc ls (aI x :: st) u cu su := by
  obtain ⟨p, l, e, R, s, m, args, below, meth, c, D, B, F⟩ := X
  obtain ⟨hx, hb, hret, hlk, hown, hts, hK, hB, hRm, hF⟩ := ho
  intro H locs la hR hS hL
  exact lv_if_lt hx hb hd ht (fun q => kt ((rg_lt hrx rg_0).mp q) H locs la hR hS hL) (fun q => kf (Int.not_lt.mp (fun z => q ((rg_lt hrx rg_0).mpr z))) H locs la hR hS hL)
theorem z_icmp_ge {x y : Int} (ho : Ok_ X own cc ret d mc ms Q) {off : Int} {tgt : Nat} (hd : decode cc pc = .ok (.if_icmp .ge off, 3)) (ht : (pc : Int) + off = (tgt : Int)) (hrx : rng x) (hry : rng y) (kt : y ≤ x → Z X tgt ls st u cu su) (kf : x < y → Z X (pc + 3) ls st u cu su) : Z X pc ls (aI y :: aI x :: st) u cu su := by
  obtain ⟨p, l, e, R, s, m, args, below, meth, c, D, B, F⟩ := X
  obtain ⟨hx, hb, hret, hlk, hown, hts, hK, hB, hRm, hF⟩ := ho
  intro H locs la hR hS hL
  exact lv_icmp_ge hx hb hd ht (fun q => kt ((rg_le hry hrx).mp q) H locs la hR hS hL) (fun q => kf (Int.not_le.mp (fun z => q ((rg_le hry hrx).mpr z))) H locs la hR hS hL)
theorem z_if_ge {x : Int} (ho : Ok_ X own cc ret d mc ms Q) {off : Int} {tgt : Nat} (hd : decode cc pc = .ok (.ifCond .ge off, 3)) (ht : (pc : Int) + off = (tgt : Int)) (hrx : rng x) (kt : 0 ≤ x → Z X tgt ls st u cu su) (kf : x < 0 → Z X (pc + 3) ls st u cu su) : Z X pc ls (aI x :: st) u cu su := by
  obtain ⟨p, l, e, R, s, m, args, below, meth, c, D, B, F⟩ := X
  obtain ⟨hx, hb, hret, hlk, hown, hts, hK, hB, hRm, hF⟩ := ho
  intro H locs la hR hS hL
  exact lv_if_ge hx hb hd ht (fun q => kt ((rg_le rg_0 hrx).mp q) H locs la hR hS hL) (fun q => kf (Int.not_le.mp (fun z => q ((rg_le rg_0 hrx).mpr z))) H locs la hR hS hL)
theorem z_icmp_gt {x y : Int} (ho : Ok_ X own cc ret d mc ms Q) {off : Int} {tgt : Nat} (hd : decode cc pc = .ok (.if_icmp .gt off, 3)) (ht : (pc : Int) + off = (tgt : Int)) (hrx : rng x) (hry : rng y) (kt : y < x → Z X tgt ls st u cu su) (kf : x ≤ y → Z X (pc + 3) ls st u cu su) : Z X pc ls (aI y :: aI x :: st) u cu su := by
  obtain ⟨p, l, e, R, s, m, args, below, meth, c, D, B, F⟩ := X
  obtain ⟨hx, hb, hret, hlk, hown, hts, hK, hB, hRm, hF⟩ := ho
  intro H locs la hR hS hL
  exact lv_icmp_gt hx hb hd ht (fun q => kt ((rg_lt hry hrx).mp q) H locs la hR hS hL) (fun q => kf (Int.not_lt.mp (fun z => q ((rg_lt hry hrx).mpr z))) H locs la hR hS hL)
theorem z_if_gt {x : Int} (ho : Ok_ X own cc ret d mc ms Q) {off : Int} {tgt : Nat} (hd : decode cc pc = .ok (.ifCond .gt off, 3)) (ht : (pc : Int) + off = (tgt : Int)) (hrx : rng x) (kt : 0 < x → Z X tgt ls st u cu su) (kf : x ≤ 0 → Z X (pc + 3) ls st u cu su) : Z X pc ls (aI x :: st) u cu su := by
  obtain ⟨p, l, e, R, s, m, args, below, meth, c, D, B, F⟩ := X
  obtain ⟨hx, hb, hret, hlk, hown, hts, hK, hB, hRm, hF⟩ := ho
  intro H locs la hR hS hL
  exact lv_if_gt hx hb hd ht (fun q => kt ((rg_lt rg_0 hrx).mp q) H locs la hR hS hL) (fun q => kf (Int.not_lt.mp (fun z => q ((rg_lt rg_0 hrx).mpr z))) H locs la hR hS hL)
theorem z_icmp_le {x y : Int} (ho : Ok_ X own cc ret d mc ms Q) {off : Int} {tgt : Nat} (hd : decode cc pc = .ok (.if_icmp .le off, 3)) (ht : (pc : Int) + off = (tgt : Int)) (hrx : rng x) (hry : rng y) (kt : x ≤ y → Z X tgt ls st u cu su) (kf : y < x → Z X (pc + 3) ls st u cu su) : Z X pc ls (aI y :: aI x :: st) u cu su := by
  obtain ⟨p, l, e, R, s, m, args, below, meth, c, D, B, F⟩ := X
  obtain ⟨hx, hb, hret, hlk, hown, hts, hK, hB, hRm, hF⟩ := ho
  intro H locs la hR hS hL
  exact lv_icmp_le hx hb hd ht (fun q => kt ((rg_le hrx hry).mp q) H locs la hR hS hL) (fun q => kf (Int.not_le.mp (fun z => q ((rg_le hrx hry).mpr z))) H locs la hR hS hL)
theorem z_if_le {x : Int} (ho : Ok_ X own cc ret d mc ms Q) {off : Int} {tgt : Nat} (hd : decode cc pc = .ok (.ifCond .le off, 3)) (ht : (pc : Int) + off = (tgt : Int)) (hrx : rng x) (kt : x ≤ 0 → Z X tgt ls st u cu su) (kf : 0 < x → Z X (pc + 3) ls st u cu su) : Z X pc ls (aI x :: st) u cu su := by
  obtain ⟨p, l, e, R, s, m, args, below, meth, c, D, B, F⟩ := X
  obtain ⟨hx, hb, hret, hlk, hown, hts, hK, hB, hRm, hF⟩ := ho
  intro H locs la hR hS hL
  exact lv_if_le hx hb hd ht (fun q => kt ((rg_le hrx rg_0).mp q) H locs la hR hS hL) (fun q => kf (Int.not_le.mp (fun z => q ((rg_le hrx rg_0).mpr z))) H locs la hR hS hL)
theorem z_goto (ho : Ok_ X own cc ret d mc ms Q) {off : Int} {tgt : Nat} (hd : decode cc pc = .ok (.goto off, 3)) (ht : (pc : Int) + off = (tgt : Int)) (k : Z X tgt ls st u cu su) : Z X pc ls st u cu su := by
  obtain ⟨p, l, e, R, s, m, args, below, meth, c, D, B, F⟩ := X
  obtain ⟨hx, hb, hret, hlk, hown, hts, hK, hB, hRm, hF⟩ := ho
  intro H locs la hR hS hL
  exact lv_goto hx hb hd ht (k H locs la hR hS hL)
theorem z_ifnull {a : Nat} (ho : Ok_ X own cc ret d mc ms Q) {off : Int} {tgt : Nat} (hd : decode cc pc = .ok (.ifnull off, 3)) (ht : (pc : Int) + off = (tgt : Int)) (kt : a = 0 → Z X tgt ls st u cu su) (kf : a ≠ 0 → Z X (pc + 3) ls st u cu su) : Z X pc ls (aR a :: st) u cu su := by
  obtain ⟨p, l, e, R, s, m, args, below, meth, c, D, B, F⟩ := X
  obtain ⟨hx, hb, hret, hlk, hown, hts, hK, hB, hRm, hF⟩ := ho
  intro H locs la hR hS hL
  cases a with
  | zero => exact lv_ifnullN hx hb hd ht (kt rfl H locs la hR hS hL)
  | succ a => exact lv_ifnull hx hb hd (kf (by omega) H locs la hR hS hL)
theorem z_ifnonnull {a : Nat} (ho : Ok_ X own cc ret d mc ms Q) {off : Int} {tgt : Nat} (hd : decode cc pc = .ok (.ifnonnull off, 3)) (ht : (pc : Int) + off = (tgt : Int)) (kt : a ≠ 0 → Z X tgt ls st u cu su) (kf : a = 0 → Z X (pc + 3) ls st u cu su) : Z X pc ls (aR a :: st) u cu su := by
  obtain ⟨p, l, e, R, s, m, args, below, meth, c, D, B, F⟩ := X
  obtain ⟨hx, hb, hret, hlk, hown, hts, hK, hB, hRm, hF⟩ := ho
  intro H locs la hR hS hL
  cases a with
  | zero => exact lv_ifnonnullN hx hb hd (kf rfl H locs la hR hS hL)
  | succ a => exact lv_ifnonnull hx hb hd ht (kt (by omega) H locs la hR hS hL)
theorem z_ireturn (ho : Ok_ X own cc ret d mc ms Q) {x : Int} (hty : ret = some .int) (hd : decode cc pc = .ok (.ireturn, 1)) (hcu : cu ≤ mc) (hsu : su ≤ ms) (hq : Q (some (aI x)) u) : Z X pc ls [aI x] u cu su := by
  obtain ⟨p, l, e, R, s, m, args, below, meth, c, D, B, F⟩ := X
  obtain ⟨hx, hb, hret, hlk, hown, hts, hK, hB, hRm, hF⟩ := ho
  intro H locs la hR hS hL
  refine W.widen hcu hsu ?_
  have hend : W p l e R s m args below meth c H locs mc ms (MQ below (Qc_ D B Q) args s mc ms (fun q => B ≤ q)) (F0 m pc la (([aI x] : List AV).map tV)) := W.iret hx hb (hret.trans hty) (fun t ht hW => ⟨⟨some (aI x), u, rfl, hq, by rw [ht]; exact hR⟩, hS.F ht⟩) hS.2.2 hd hlk
  intro T hT Y
  obtain ⟨t, h1, h2⟩ := hend T hT Y
  exact ⟨t, h1, hF t h2⟩
theorem z_zreturn (ho : Ok_ X own cc ret d mc ms Q) {x : Int} {ty : FieldType} (hty : ret = some ty) (hn : narrow ty (.int (Int32.ofInt x)) = .int (Int32.ofInt x)) (hd : decode cc pc = .ok (.ireturn, 1)) (hcu : cu ≤ mc) (hsu : su ≤ ms) (hq : Q (some (aI x)) u) : Z X pc ls [aI x] u cu su := by
  obtain ⟨p, l, e, R, s, m, args, below, meth, c, D, B, F⟩ := X
  obtain ⟨hx, hb, hret, hlk, hown, hts, hK, hB, hRm, hF⟩ := ho
  intro H locs la hR hS hL
  refine W.widen hcu hsu ?_
  have hend : W p l e R s m args below meth c H locs mc ms (MQ below (Qc_ D B Q) args s mc ms (fun q => B ≤ q)) (F0 m pc la (([aI x] : List AV).map tV)) := W.zret hx hb (hret.trans hty) hn (fun t ht hW => ⟨⟨some (aI x), u, rfl, hq, by rw [ht]; exact hR⟩, hS.F ht⟩) hS.2.2 hd hlk
  intro T hT Y
  obtain ⟨t, h1, h2⟩ := hend T hT Y
  exact ⟨t, h1, hF t h2⟩
theorem z_return (ho : Ok_ X own cc ret d mc ms Q) (hty : ret = none) (hd : decode cc pc = .ok (.return_, 1)) (hcu : cu ≤ mc) (hsu : su ≤ ms) (hq : Q (none) u) : Z X pc ls [] u cu su := by
  obtain ⟨p, l, e, R, s, m, args, below, meth, c, D, B, F⟩ := X
  obtain ⟨hx, hb, hret, hlk, hown, hts, hK, hB, hRm, hF⟩ := ho
  intro H locs la hR hS hL
  refine W.widen hcu hsu ?_
  have hend : W p l e R s m args below meth c H locs mc ms (MQ below (Qc_ D B Q) args s mc ms (fun q => B ≤ q)) (F0 m pc la (([] : List AV).map tV)) := W.vret hx hb (hret.trans hty) (fun t ht hW => ⟨⟨none, u, rfl, hq, by rw [ht]; exact hR⟩, hS.F ht⟩) hS.2.2 hd hlk
  intro T hT Y
  obtain ⟨t, h1, h2⟩ := hend T hT Y
  exact ⟨t, h1, hF t h2⟩
theorem z_areturn (ho : Ok_ X own cc ret d mc ms Q) {x : Nat} {C : String} (hty : ret = some (.object C)) (hd : decode cc pc = .ok (.areturn, 1)) (hcu : cu ≤ mc) (hsu : su ≤ ms) (hq : Q (some (aR x)) u) : Z X pc ls [aR x] u cu su := by
  obtain ⟨p, l, e, R, s, m, args, below, meth, c, D, B, F⟩ := X
  obtain ⟨hx, hb, hret, hlk, hown, hts, hK, hB, hRm, hF⟩ := ho
  intro H locs la hR hS hL
  refine W.widen hcu hsu ?_
  have hend : W p l e R s m args below meth c H locs mc ms (MQ below (Qc_ D B Q) args s mc ms (fun q => B ≤ q)) (F0 m pc la (([aR x] : List AV).map tV)) := W.aret hx hb (hret.trans hty) (Or.inl ⟨_, rfl⟩) (by cases x with | zero => exact Or.inl rfl | succ x => exact Or.inr ⟨_, rfl⟩) (fun t ht hW => ⟨⟨some (aR x), u, rfl, hq, by rw [ht]; exact hR⟩, hS.F ht⟩) hS.2.2 hd hlk
  intro T hT Y
  obtain ⟨t, h1, h2⟩ := hend T hT Y
  exact ⟨t, h1, hF t h2⟩
end ROWS
