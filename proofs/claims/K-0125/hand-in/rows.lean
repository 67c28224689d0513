section
theorem pk_us {f : Nat → Int32} {k : Nat} {x : Int32} : upd f k x k = x := if_pos rfl
theorem pk_un {f : Nat → Int32} {k j : Nat} {x : Int32} (h : j ≠ k) : upd f k x j = f j := if_neg h
theorem pk_sub {a b : Nat} (h : b ≤ a) : nI a - nI b = nI (a - b) := by
  obtain ⟨c, rfl⟩ : ∃ c, a = c + b := ⟨a - b, by omega⟩
  rw [← nI_add, Int32.add_sub_cancel, Nat.add_sub_cancel]
theorem pk_mul (a b : Nat) : nI a * nI b = nI (a * b) := (Int32.ofNat_mul a b).symm
theorem pk_div {a d : Nat} (ha : a < 2 ^ 31) (h0 : 0 < d) (hd : d < 2 ^ 31) : nI a / nI d = nI (a / d) := by
  apply Int32.toInt_inj.mp
  rw [lg_idiv_nonneg (by rw [nI_toInt ha]; omega) (by rw [nI_toInt hd]; omega), nI_toInt ha, nI_toInt hd, nI_toInt (Nat.lt_of_le_of_lt (Nat.div_le_self a d) ha)]
  first | rfl | exact (Int.natCast_ediv _ _).symm
theorem pk_rem {a d : Nat} (ha : a < 2 ^ 31) (h0 : 0 < d) (hd : d < 2 ^ 31) : nI a - nI a / nI d * nI d = nI (a % d) := by
  rw [pk_div ha h0 hd, pk_mul, pk_sub (Nat.div_mul_le_self a d)]
  exact congrArg nI (by have := Nat.div_add_mod' a d; omega)
theorem pk_le {x y : Int32} {A B : Prop} (a b : Nat) (f : a ≤ b → A) (g : b < a → B) (hx : x = nI a := by rfl) (hy : y = nI b := by rfl) (ha : a < 2 ^ 31 := by omega) (hb : b < 2 ^ 31 := by omega) : (x ≤ y → A) ∧ (¬ x ≤ y → B) := by
  subst hx hy
  rw [nI_leI ha hb]
  exact ⟨f, fun z => g (by omega)⟩
theorem pk_lt {x y : Int32} {A B : Prop} (a b : Nat) (f : a < b → A) (g : b ≤ a → B) (hx : x = nI a := by rfl) (hy : y = nI b := by rfl) (ha : a < 2 ^ 31 := by omega) (hb : b < 2 ^ 31 := by omega) : (x < y → A) ∧ (¬ x < y → B) := by
  subst hx hy
  rw [nI_ltI ha hb]
  exact ⟨f, fun z => g (by omega)⟩
theorem pk_eq {x y : Int32} {A B : Prop} (a b : Nat) (f : a = b → A) (g : a ≠ b → B) (hx : x = nI a := by rfl) (hy : y = nI b := by rfl) (ha : a < 2 ^ 31 := by omega) (hb : b < 2 ^ 31 := by omega) : (x = y → A) ∧ (¬ x = y → B) := by
  subst hx hy
  rw [nI_eq ha hb]
  exact ⟨f, g⟩
theorem pk_in {x : Int32} (n N : Nat) (h : n < N) (hx : x = nI n := by rfl) (hN : N < 2 ^ 31 := by omega) : vp_in x N := by
  subst hx
  exact vp_in_nI h hN
theorem pk_cl {x : Int32} (n : Nat) (hx : x = nI n := by rfl) (h : n < 2 ^ 31 := by omega) : x.toNatClampNeg = n := by
  subst hx
  exact nI_clamp h
theorem pk_tn {n : Nat} (h : n < 2 ^ 32) : (nI n).toBitVec.toNat = n := Nat.mod_eq_of_lt h
theorem pk_and (x : Int32) {m : Int32} (k : Nat) (hm : m.toBitVec.toNat = 2 ^ k - 1) : x &&& m = nI (x.toBitVec.toNat % 2 ^ k) := by
  apply Int32.toBitVec_inj.mp
  apply BitVec.eq_of_toNat_eq
  rw [Int32.toBitVec_and, BitVec.toNat_and, hm, Nat.and_two_pow_sub_one_eq_mod]
  show _ = (BitVec.ofNat 32 _).toNat
  rw [BitVec.toNat_ofNat]
  exact (Nat.mod_eq_of_lt (Nat.lt_of_le_of_lt (Nat.mod_le _ _) x.toBitVec.isLt)).symm
theorem pk_andE (x : Int32) {m : Int32} (k : Nat) (hm : m.toBitVec.toNat = 2 ^ k - 1) : ∃ j : Nat, j < 2 ^ k ∧ x &&& m = nI j := ⟨_, Nat.mod_lt _ (Nat.two_pow_pos k), pk_and x k hm⟩
theorem pk_andIn (x : Int32) {m : Int32} (k : Nat) (hm : m.toBitVec.toNat = 2 ^ k - 1) (hk : k ≤ 30) : vp_in (x &&& m) (2 ^ k) := by
  obtain ⟨j, hj, e⟩ := pk_andE x k hm
  rw [e]
  exact vp_in_nI hj (Nat.lt_of_le_of_lt (Nat.pow_le_pow_right (by decide) hk) (by decide))
theorem pk_shl (a s : Int32) (k : Nat) (hs : (s.toBitVec.smod 32).toNat = k) : (a <<< s).toBitVec.toNat = a.toBitVec.toNat * 2 ^ k % 2 ^ 32 := by
  show (a.toBitVec <<< (s.toBitVec.smod 32).toNat).toNat = _
  rw [hs, BitVec.toNat_shiftLeft, Nat.shiftLeft_eq]
theorem pk_shlN {n : Nat} (s : Int32) (k : Nat) (hs : (s.toBitVec.smod 32).toNat = k) (h : n * 2 ^ k < 2 ^ 32) : nI n <<< s = nI (n * 2 ^ k) := by
  apply Int32.toBitVec_inj.mp
  apply BitVec.eq_of_toNat_eq
  have hn : n < 2 ^ 32 := Nat.lt_of_le_of_lt (Nat.le_mul_of_pos_right n (Nat.two_pow_pos k)) h
  rw [pk_shl _ _ k hs, pk_tn hn, pk_tn h, Nat.mod_eq_of_lt h]
theorem pk_vb (z : Int32) : vp_nar .byte z.toInt8.toInt32 = z.toInt8.toInt32 := by rw [vp_nar_byte]; simp
theorem nx_and (a b : Nat) : nI a &&& nI b = nI (a &&& b) := by
  apply Int32.toBitVec_inj.1
  show BitVec.ofNat 32 a &&& BitVec.ofNat 32 b = BitVec.ofNat 32 (a &&& b)
  apply BitVec.eq_of_getLsbD_eq
  intro i hi
  simp [hi]
theorem nx_xor (a b : Nat) : nI a ^^^ nI b = nI (a ^^^ b) := by
  apply Int32.toBitVec_inj.1
  show BitVec.ofNat 32 a ^^^ BitVec.ofNat 32 b = BitVec.ofNat 32 (a ^^^ b)
  apply BitVec.eq_of_getLsbD_eq
  intro i hi
  simp [hi]
theorem bp_b (x : Int32) : x.toInt8.toInt32 &&& 255 = x &&& 255 := by
  apply Int32.toBitVec_inj.mp
  rw [Int32.toBitVec_and, Int32.toBitVec_and, Int8.toBitVec_toInt32, Int32.toBitVec_toInt8]
  apply BitVec.eq_of_getLsbD_eq
  intro i hi
  rw [BitVec.getLsbD_and, BitVec.getLsbD_and]
  have hm : ∀ i < 32, 8 ≤ i → (255 : Int32).toBitVec.getLsbD i = false := by decide
  rcases Nat.lt_or_ge i 8 with z | z
  · rw [BitVec.getLsbD_signExtend, BitVec.getLsbD_signExtend, if_pos z, if_pos hi]
    simp only [z, hi, decide_true, Bool.true_and]
  · rw [hm i hi z]; simp
end
section
/-- twice n, reduced by 0x11D -/
def gf_xt (n : Nat) : Nat := (n <<< 1) ^^^ (cond (n.testBit 7) 285 0)
/-- one step of the reference: double, and add a where the bit is set -/
def gf_st (a r : Nat) (t : Bool) : Nat := gf_xt r ^^^ (cond t a 0)
/-- the reference's product -/
def gf_tm (a b : Nat) : Nat := gf_st a (gf_st a (gf_st a (gf_st a (gf_st a (gf_st a (gf_st a (gf_st a 0 (b.testBit 7)) (b.testBit 6)) (b.testBit 5)) (b.testBit 4)) (b.testBit 3)) (b.testBit 2)) (b.testBit 1)) (b.testBit 0)
/-- b doubled n times -/
def gf_it : Nat → Nat → Nat
  | 0, b => b
  | n + 1, b => gf_xt (gf_it n b)
/-- the n-th power of 2 in the field -/
def gf_gx (n : Nat) : Nat := gf_it n 1
/-- the powers of 2, and their logarithms: tables to decide over -/
def gf_E : List Nat := [
  1, 2, 4, 8, 16, 32, 64, 128, 29, 58, 116, 232, 205, 135, 19, 38, 76, 152, 45, 90, 180, 117, 234, 201,
  143, 3, 6, 12, 24, 48, 96, 192, 157, 39, 78, 156, 37, 74, 148, 53, 106, 212, 181, 119, 238, 193, 159, 35,
  70, 140, 5, 10, 20, 40, 80, 160, 93, 186, 105, 210, 185, 111, 222, 161, 95, 190, 97, 194, 153, 47, 94, 188,
  101, 202, 137, 15, 30, 60, 120, 240, 253, 231, 211, 187, 107, 214, 177, 127, 254, 225, 223, 163, 91, 182, 113, 226,
  217, 175, 67, 134, 17, 34, 68, 136, 13, 26, 52, 104, 208, 189, 103, 206, 129, 31, 62, 124, 248, 237, 199, 147,
  59, 118, 236, 197, 151, 51, 102, 204, 133, 23, 46, 92, 184, 109, 218, 169, 79, 158, 33, 66, 132, 21, 42, 84,
  168, 77, 154, 41, 82, 164, 85, 170, 73, 146, 57, 114, 228, 213, 183, 115, 230, 209, 191, 99, 198, 145, 63, 126,
  252, 229, 215, 179, 123, 246, 241, 255, 227, 219, 171, 75, 150, 49, 98, 196, 149, 55, 110, 220, 165, 87, 174, 65,
  130, 25, 50, 100, 200, 141, 7, 14, 28, 56, 112, 224, 221, 167, 83, 166, 81, 162, 89, 178, 121, 242, 249, 239,
  195, 155, 43, 86, 172, 69, 138, 9, 18, 36, 72, 144, 61, 122, 244, 245, 247, 243, 251, 235, 203, 139, 11, 22,
  44, 88, 176, 125, 250, 233, 207, 131, 27, 54, 108, 216, 173, 71, 142]
def gf_L : List Nat := [
  0, 0, 1, 25, 2, 50, 26, 198, 3, 223, 51, 238, 27, 104, 199, 75, 4, 100, 224, 14, 52, 141, 239, 129,
  28, 193, 105, 248, 200, 8, 76, 113, 5, 138, 101, 47, 225, 36, 15, 33, 53, 147, 142, 218, 240, 18, 130, 69,
  29, 181, 194, 125, 106, 39, 249, 185, 201, 154, 9, 120, 77, 228, 114, 166, 6, 191, 139, 98, 102, 221, 48, 253,
  226, 152, 37, 179, 16, 145, 34, 136, 54, 208, 148, 206, 143, 150, 219, 189, 241, 210, 19, 92, 131, 56, 70, 64,
  30, 66, 182, 163, 195, 72, 126, 110, 107, 58, 40, 84, 250, 133, 186, 61, 202, 94, 155, 159, 10, 21, 121, 43,
  78, 212, 229, 172, 115, 243, 167, 87, 7, 112, 192, 247, 140, 128, 99, 13, 103, 74, 222, 237, 49, 197, 254, 24,
  227, 165, 153, 119, 38, 184, 180, 124, 17, 68, 146, 217, 35, 32, 137, 46, 55, 63, 209, 91, 149, 188, 207, 205,
  144, 135, 151, 178, 220, 252, 190, 97, 242, 86, 211, 171, 20, 42, 93, 158, 132, 60, 57, 83, 71, 109, 65, 162,
  31, 45, 67, 216, 183, 123, 164, 118, 196, 23, 73, 236, 127, 12, 111, 246, 108, 161, 59, 82, 41, 157, 85, 170,
  251, 96, 134, 177, 187, 204, 62, 90, 203, 89, 95, 176, 156, 169, 160, 81, 11, 245, 22, 235, 122, 117, 44, 215,
  79, 174, 213, 233, 230, 231, 173, 232, 116, 214, 244, 234, 168, 80, 88, 175]
theorem gf_key (A B c : Nat) (p q : Bool) : (A ^^^ B) ^^^ cond (p ^^ q) c 0 = (A ^^^ cond p c 0) ^^^ (B ^^^ cond q c 0) := by
  apply Nat.eq_of_testBit_eq
  intro i
  have z : Nat.testBit 0 i = false := Nat.zero_testBit i
  cases p <;> cases q <;> simp only [Nat.testBit_xor, cond_true, cond_false, Bool.xor_true, Bool.xor_false, Bool.not_true, Bool.not_false, z] <;> cases A.testBit i <;> cases B.testBit i <;> cases c.testBit i <;> rfl
theorem gf_xt_xor (a b : Nat) : gf_xt (a ^^^ b) = gf_xt a ^^^ gf_xt b := by
  unfold gf_xt
  rw [Nat.shiftLeft_xor_distrib, Nat.testBit_xor]
  exact gf_key _ _ _ _ _
theorem gf_xt_0 : gf_xt 0 = 0 := by decide
theorem gf_xt_lt : ∀ n, n < 256 → gf_xt n < 256 := by decide +kernel
theorem gf_st_xt (a r : Nat) (t : Bool) : gf_st (gf_xt a) (gf_xt r) t = gf_xt (gf_st a r t) := by
  unfold gf_st
  rw [gf_xt_xor]
  cases t
  · show _ ^^^ 0 = _ ^^^ gf_xt 0
    rw [gf_xt_0]
  · rfl
theorem gf_st_lt {a r : Nat} {t : Bool} (ha : a < 256) (hr : r < 256) : gf_st a r t < 256 := by
  have h : (cond t a 0) < 2 ^ 8 := by cases t <;> simp only [cond_true, cond_false] <;> omega
  exact Nat.xor_lt_two_pow (n := 8) (gf_xt_lt r hr) h
theorem gf_tm_xt (a b : Nat) : gf_tm (gf_xt a) b = gf_xt (gf_tm a b) := by
  have h0 : ∀ t, gf_st (gf_xt a) 0 t = gf_xt (gf_st a 0 t) := by
    intro t
    have h := gf_st_xt a 0 t
    rw [gf_xt_0] at h
    exact h
  unfold gf_tm
  rw [h0, gf_st_xt, gf_st_xt, gf_st_xt, gf_st_xt, gf_st_xt, gf_st_xt, gf_st_xt]
theorem gf_tm_1 : ∀ b, b < 256 → gf_tm 1 b = b := by decide +kernel
theorem gf_st_0 (t : Bool) : gf_st 0 0 t = 0 := by cases t <;> decide
theorem gf_tm_0l (b : Nat) : gf_tm 0 b = 0 := by
  unfold gf_tm
  rw [gf_st_0, gf_st_0, gf_st_0, gf_st_0, gf_st_0, gf_st_0, gf_st_0, gf_st_0]
theorem gf_st_z (a : Nat) : gf_st a 0 false = 0 := by
  show gf_xt 0 ^^^ 0 = 0
  rw [gf_xt_0]
  rfl
theorem gf_tm_0r (a : Nat) : gf_tm a 0 = 0 := by
  unfold gf_tm
  rw [Nat.zero_testBit, Nat.zero_testBit, Nat.zero_testBit, Nat.zero_testBit, Nat.zero_testBit, Nat.zero_testBit, Nat.zero_testBit, Nat.zero_testBit]
  rw [gf_st_z, gf_st_z, gf_st_z, gf_st_z, gf_st_z, gf_st_z, gf_st_z, gf_st_z]
theorem gf_it_add (m n b : Nat) : gf_it (m + n) b = gf_it m (gf_it n b) := by
  induction m with
  | zero => rw [Nat.zero_add]; rfl
  | succ m ih =>
    rw [Nat.succ_add]
    show gf_xt (gf_it (m + n) b) = gf_xt (gf_it m (gf_it n b))
    rw [ih]
theorem gf_gx_s (n : Nat) : gf_gx (n + 1) = gf_xt (gf_gx n) := rfl
theorem gf_gx_lt (n : Nat) : gf_gx n < 256 := by
  induction n with
  | zero => decide
  | succ n ih => rw [gf_gx_s]; exact gf_xt_lt _ ih
theorem gf_tm_gx {b : Nat} (hb : b < 256) (i : Nat) : gf_tm (gf_gx i) b = gf_it i b := by
  induction i with
  | zero => exact gf_tm_1 b hb
  | succ i ih =>
    rw [gf_gx_s, gf_tm_xt, ih]
    rfl
/-- powers multiply by adding their exponents -/
theorem gf_mul (i j : Nat) : gf_tm (gf_gx i) (gf_gx j) = gf_gx (i + j) := by
  rw [gf_tm_gx (gf_gx_lt j)]
  exact (gf_it_add i j 1).symm
theorem gf_E_s : ∀ i, i < 254 → gf_xt (gf_E.getD i 0) = gf_E.getD (i + 1) 0 := by decide +kernel
theorem gf_E_l : gf_xt (gf_E.getD 254 0) = 1 := by decide +kernel
theorem gf_LE : ∀ i, i < 255 → gf_L.getD (gf_E.getD i 0) 0 = i := by decide +kernel
theorem gf_EL : ∀ a, a < 256 → a ≠ 0 → gf_L.getD a 0 < 255 ∧ gf_E.getD (gf_L.getD a 0) 0 = a := by decide +kernel
theorem gf_tab (i : Nat) (h : i < 255) : gf_gx i = gf_E.getD i 0 := by
  induction i with
  | zero => rfl
  | succ i ih => rw [gf_gx_s, ih (by omega), gf_E_s i (by omega)]
theorem gf_255 : gf_gx 255 = 1 := by
  rw [gf_gx_s 254, gf_tab 254 (by decide), gf_E_l]
theorem gf_per (n : Nat) : gf_gx (n + 255) = gf_gx n := by
  have h : gf_it (n + 255) 1 = gf_it n (gf_gx 255) := gf_it_add n 255 1
  rw [gf_255] at h
  exact h
theorem gf_perm (r q : Nat) : gf_gx (r + 255 * q) = gf_gx r := by
  induction q with
  | zero => rfl
  | succ q ih => rw [Nat.mul_succ, ← Nat.add_assoc, gf_per, ih]
theorem gf_mod (n : Nat) : gf_gx (n % 255) = gf_gx n := by
  have h := gf_perm (n % 255) (n / 255)
  rw [Nat.mod_add_div] at h
  exact h.symm
theorem gf_log {a : Nat} (h : a < 256) (h0 : a ≠ 0) : ∃ i, i < 255 ∧ a = gf_gx i := by
  obtain ⟨h1, h2⟩ := gf_EL a h h0
  exact ⟨_, h1, by rw [gf_tab _ h1, h2]⟩
theorem gf_inj {i j : Nat} (hi : i < 255) (hj : j < 255) (h : gf_gx i = gf_gx j) : i = j := by
  rw [gf_tab i hi, gf_tab j hj] at h
  rw [← gf_LE i hi, h, gf_LE j hj]
theorem gf_ne0 (i : Nat) : gf_gx i ≠ 0 := by
  intro h
  have e := gf_mul (255 - i % 255) (i % 255)
  rw [gf_mod, h, gf_tm_0r, Nat.sub_add_cancel (Nat.le_of_lt (Nat.mod_lt _ (by decide))), gf_255] at e
  exact absurd e (by decide)
/-- a quotient's exponent, as the component and as the reference reckons it -/
theorem gf_div {i j : Nat} (hj : j < 255) : gf_gx (i + 255 - j) = gf_gx (i + 254 * j) := by
  rcases Nat.eq_zero_or_pos j with rfl | hp
  · exact gf_per i
  · have e : i + 254 * j = i + 255 - j + 255 * (j - 1) := by omega
    rw [e, gf_perm]
end
section
/-- the reference's step on a number of a byte -/
theorem gf_y1 : ∀ r, r < 256 → ((nI r <<< ((1 : Int32) &&& 31)) < 256 ∧ nI r <<< ((1 : Int32) &&& 31) = nI (gf_xt r)) ∨ (¬ (nI r <<< ((1 : Int32) &&& 31)) < 256 ∧ (nI r <<< ((1 : Int32) &&& 31)) ^^^ 285 = nI (gf_xt r)) := by decide +kernel
/-- the component's doubling -/
theorem gf_x1 : ∀ r, r < 256 → (((nI r <<< ((1 : Int32) &&& 31)) &&& 256) = 0 ∧ nI r <<< ((1 : Int32) &&& 31) = nI (gf_xt r)) ∨ (¬ ((nI r <<< ((1 : Int32) &&& 31)) &&& 256) = 0 ∧ (nI r <<< ((1 : Int32) &&& 31)) ^^^ 285 = nI (gf_xt r)) := by decide +kernel
theorem gf_b0 : ∀ b, b < 256 → ((nI b &&& 1) = 0 ↔ b.testBit 0 = false) := by decide +kernel
theorem gf_b1 : ∀ b, b < 256 → ((nI b &&& 2) = 0 ↔ b.testBit 1 = false) := by decide +kernel
theorem gf_b2 : ∀ b, b < 256 → ((nI b &&& 4) = 0 ↔ b.testBit 2 = false) := by decide +kernel
theorem gf_b3 : ∀ b, b < 256 → ((nI b &&& 8) = 0 ↔ b.testBit 3 = false) := by decide +kernel
theorem gf_b4 : ∀ b, b < 256 → ((nI b &&& 16) = 0 ↔ b.testBit 4 = false) := by decide +kernel
theorem gf_b5 : ∀ b, b < 256 → ((nI b &&& 32) = 0 ↔ b.testBit 5 = false) := by decide +kernel
theorem gf_b6 : ∀ b, b < 256 → ((nI b &&& 64) = 0 ↔ b.testBit 6 = false) := by decide +kernel
theorem gf_b7 : ∀ b, b < 256 → ((nI b &&& 128) = 0 ↔ b.testBit 7 = false) := by decide +kernel
theorem gf_byte0 : ∀ c, c < 256 → (nI c).toInt8.toInt32 &&& 255 = nI c := by decide +kernel
theorem gf_byte {c : Nat} (h : c < 256) : vp_nar .byte (nI c).toInt8.toInt32 &&& 255 = nI c := by
  rw [pk_vb, gf_byte0 c h]
theorem gf_step {post : Int32 → Prop} {r a : Nat} {p2 : Int32} (t : Bool) (hr : r < 256) (ht : p2 = 0 ↔ t = false) (h : post (nI (gf_st a r t))) : wpY_step post (nI r) (nI a) p2 := by
  have tail : wY_step_17 post (nI (gf_xt r)) (nI a) p2 := by
    unfold wY_step_17
    cases t
    · have e : gf_st a r false = gf_xt r := Nat.xor_zero _
      rw [e] at h
      exact br_t (ht.mpr rfl) h
    · refine br_f (fun z => Bool.noConfusion (ht.mp z)) ?_
      rw [nx_xor]
      exact h
  unfold wpY_step
  refine nm_e ?_
  rcases gf_y1 r hr with ⟨c, e⟩ | ⟨c, e⟩
  · refine br_t c ?_
    rw [e]
    exact tail
  · exact br_f c (nm_r e tail)
theorem gf_times {post : Int32 → Prop} {a b : Nat} (ha : a < 256) (hb : b < 256) (h : post (nI (gf_tm a b))) : wpY_times post (nI a) (nI b) := by
  have h7 : gf_st a 0 (b.testBit 7) < 256 := gf_st_lt ha (by decide)
  have h6 := gf_st_lt (t := b.testBit 6) ha h7
  have h5 := gf_st_lt (t := b.testBit 5) ha h6
  have h4 := gf_st_lt (t := b.testBit 4) ha h5
  have h3 := gf_st_lt (t := b.testBit 3) ha h4
  have h2 := gf_st_lt (t := b.testBit 2) ha h3
  have h1 := gf_st_lt (t := b.testBit 1) ha h2
  unfold wpY_times
  refine gf_step (r := 0) _ (by decide) (gf_b7 b hb) ?_
  refine gf_step _ h7 (gf_b6 b hb) ?_
  refine gf_step _ h6 (gf_b5 b hb) ?_
  refine gf_step _ h5 (gf_b4 b hb) ?_
  refine gf_step _ h4 (gf_b3 b hb) ?_
  refine gf_step _ h3 (gf_b2 b hb) ?_
  refine gf_step _ h2 (gf_b1 b hb) ?_
  exact gf_step _ h1 (gf_b0 b hb) h
/-- the component's tables -/
def gf_T (ex lo : Nat → Int32) : Prop := (∀ i, i < 510 → ex i &&& 255 = nI (gf_gx i)) ∧ (∀ i, i < 255 → lo (gf_gx i) &&& 255 = nI i)
/-- the tables while they are filled, up to i -/
def gf_I (i : Nat) (ex lo : Nat → Int32) : Prop := ∀ j, j < i → ex j &&& 255 = nI (gf_gx j) ∧ ex (j + 255) &&& 255 = nI (gf_gx j) ∧ lo (gf_gx j) &&& 255 = nI j
theorem gf_I_s {i : Nat} {ex lo : Nat → Int32} {V W : Int32} (hi : i < 255) (hV : V &&& 255 = nI (gf_gx i)) (hW : W &&& 255 = nI i) (h : gf_I i ex lo) : gf_I (i + 1) (upd (upd ex i V) (i + 255) V) (upd lo (gf_gx i) W) := by
  intro j hj
  by_cases e : j = i
  · subst e
    rw [pk_un (show j ≠ j + 255 by omega), pk_us, pk_us, pk_us]
    exact ⟨hV, hV, hW⟩
  · have hg : gf_gx j ≠ gf_gx i := fun z => e (gf_inj (by omega) hi z)
    rw [pk_un (show j ≠ i + 255 by omega), pk_un e, pk_un (show j + 255 ≠ i + 255 by omega), pk_un (show j + 255 ≠ i by omega), pk_un hg]
    exact h j (by omega)
theorem gf_I_T {ex lo : Nat → Int32} (h : gf_I 255 ex lo) : gf_T ex lo := by
  refine ⟨fun i hi => ?_, fun i hi => (h i hi).2.2⟩
  by_cases z : i < 255
  · exact (h i z).1
  · obtain ⟨j, rfl⟩ : ∃ j, i = j + 255 := ⟨i - 255, by omega⟩
    rw [gf_per]
    exact (h j (by omega)).2.1
theorem gf_255i (i : Nat) : nI i + 255 = nI (i + 255) := nI_add i 255
theorem gf_init {post : SX → Prop} (H : ∀ ex lo : Nat → Int32, gf_T ex lo → post (ex, lo, fun _ => 0)) : ∀ d i : Nat, i + d = 255 → ∀ ex lo : Nat → Int32, gf_I i ex lo → wX_init_33 post (d + 1) (nI (gf_gx i)) (nI i) ex lo (fun _ => 0) := by
  intro d
  induction d with
  | zero =>
    intro i hi ex lo h
    obtain rfl : i = 255 := by omega
    exact br_t (nI_le (a := 255) (b := 255) (by omega) (by omega)) (H ex lo (gf_I_T h))
  | succ d ih =>
    intro i hi ex lo h
    have hg := gf_gx_lt i
    have hV := gf_byte hg
    have hW : vp_nar .byte (nI i).toInt8.toInt32 &&& 255 = nI i := gf_byte (by omega)
    have hn := ih (i + 1) (by omega) _ _ (gf_I_s (by omega) hV hW h)
    rw [gf_gx_s] at hn
    refine br_f (nI_ge (b := 255) (by omega) (by omega)) ⟨vp_in_nI (by omega) (by omega), nm_r (congrArg (fun z => upd ex z _) (nI_clamp (by omega))) ⟨?_, ?_⟩⟩
    · rw [gf_255i]
      exact vp_in_nI (by omega) (by omega)
    · rw [gf_255i, nI_clamp (show i + 255 < 2 ^ 31 by omega)]
      refine nm_e ⟨vp_in_nI (by omega) (by omega), nm_r (congrArg (fun z => upd lo z _) (nI_clamp (by omega))) (nm_e ?_)⟩
      rcases gf_x1 (gf_gx i) hg with ⟨c, e⟩ | ⟨c, e⟩
      · refine br_t c (nm_r (nI_1 i) ?_)
        rw [e]
        exact hn
      · exact br_f c (nm_r e (nm_r (nI_1 i) hn))
/-- what a pair of bytes passes -/
theorem gf_n255 {a : Nat} (ha : a < 256) : ¬ (255 : Int32) < nI a := nI_nlt (a := 255) (b := a) (by omega) (by omega)
theorem gf_le255 {a : Nat} (ha : a < 256) : nI a ≤ (255 : Int32) := nI_le (a := a) (b := 255) (by omega) (by omega)
theorem gf_of {x : Int32} (h : ¬ x < 0) (h5 : x ≤ 255) : ∃ a : Nat, a < 256 ∧ x = nI a := by
  obtain ⟨j, hj, e⟩ := nI_of2 (M := 255) (n := 255) (by decide) h h5
  exact ⟨j, by omega, e⟩
theorem gf_lk {lo : Nat → Int32} {ex : Nat → Int32} (T : gf_T ex lo) {i : Nat} (hi : i < 255) : lo (nI (gf_gx i)).toNatClampNeg &&& 255 = nI i := by
  have := gf_gx_lt i
  rw [nI_clamp (by omega)]
  exact T.2 i hi
theorem gf_Xmul {post : Int32 → SX → Prop} {ex lo t : Nat → Int32} (T : gf_T ex lo) {a b : Nat} (ha : a < 256) (hb : b < 256) (h : post (nI (gf_tm a b)) (ex, lo, t)) : wpX_mul post (ex, lo, t) (nI a) (nI b) := by
  unfold wpX_mul
  dsimp only
  refine br_f (nI_pos (by omega)) (br_f (gf_n255 ha) (br_f (nI_pos (by omega)) (br_t (gf_le255 hb) ?_)))
  by_cases za : a = 0
  · subst za
    rw [gf_tm_0l] at h
    exact br_t nI_0 h
  · refine br_f (nI_ne0 (by omega) (by omega)) ?_
    by_cases zb : b = 0
    · subst zb
      rw [gf_tm_0r] at h
      exact br_t nI_0 h
    · refine br_f (nI_ne0 (by omega) (by omega)) ?_
      obtain ⟨i, hi, rfl⟩ := gf_log ha za
      obtain ⟨j, hj, rfl⟩ := gf_log hb zb
      refine ⟨vp_in_nI ha (by omega), nm_r (gf_lk T hi) ⟨vp_in_nI hb (by omega), nm_r (gf_lk T hj) ?_⟩⟩
      rw [nI_add, nI_clamp (by omega), T.1 _ (by omega), ← gf_mul]
      exact ⟨vp_in_nI (by omega) (by omega), h⟩
theorem gf_Xdiv {post : Int32 → SX → Prop} {ex lo t : Nat → Int32} (T : gf_T ex lo) {i j : Nat} (hi : i < 255) (hj : j < 255) (h : post (nI (gf_gx (i + 255 - j))) (ex, lo, t)) : wpX_div post (ex, lo, t) (nI (gf_gx i)) (nI (gf_gx j)) := by
  have ha := gf_gx_lt i
  have hb := gf_gx_lt j
  have za := gf_ne0 i
  have zb := gf_ne0 j
  have e : nI i + 255 - nI j = nI (i + 255 - j) := by rw [gf_255i, pk_sub (by omega)]
  unfold wpX_div
  dsimp only
  refine br_f (nI_pos (by omega)) (br_f (gf_n255 ha) (br_f (nI_pos (by omega)) (br_t (gf_le255 hb) (br_f (nI_ne0 (by omega) (by omega)) (br_f (nI_ne0 (by omega) (by omega)) ?_)))))
  refine ⟨vp_in_nI ha (by omega), nm_r (gf_lk T hi) ⟨vp_in_nI hb (by omega), nm_r (gf_lk T hj) ?_⟩⟩
  rw [e, nI_clamp (by omega), T.1 _ (by omega)]
  exact ⟨vp_in_nI (by omega) (by omega), h⟩
/-- what the exponent p is taken for -/
def gf_ex (p : Int32) (e : Nat) : Prop := (0 ≤ p - p / 255 * 255 ∧ p - p / 255 * 255 = nI e) ∨ (¬ 0 ≤ p - p / 255 * 255 ∧ p - p / 255 * 255 + 255 = nI e)
theorem gf_ex_of (p : Int32) : ∃ e, e < 255 ∧ gf_ex p e := by
  have hm : (255 : Int32).toInt = 255 := by decide
  have hr := rem_toInt p 255
  rw [hm] at hr
  have tb := tmod_bounds (a := p.toInt) (M := 255) (by decide)
  rw [← hr] at tb
  unfold gf_ex
  generalize p - p / 255 * 255 = r at tb
  by_cases h : 0 ≤ r
  · obtain ⟨j, hj, rfl⟩ := nI_of (Int32.not_lt.mpr h)
    rw [nI_toInt hj] at tb
    exact ⟨j, by omega, Or.inl ⟨h, rfl⟩⟩
  · have h' := h
    rw [Int32.le_iff_toInt_le, show (0 : Int32).toInt = 0 from by decide] at h'
    have hs : (r + 255).toInt = r.toInt + 255 := by
      rw [Jvm.Kit.i32_add (by rw [hm]; omega) (by rw [hm]; omega), hm]
    have h0 : ¬ r + 255 < 0 := by
      rw [Int32.lt_iff_toInt_lt, show (0 : Int32).toInt = 0 from by decide, hs]
      omega
    obtain ⟨j, hj, ej⟩ := nI_of h0
    rw [ej, nI_toInt hj] at hs
    exact ⟨j, by omega, Or.inr ⟨h, ej⟩⟩
theorem gf_ex_254 : gf_ex 254 254 := Or.inl (by decide)
theorem gf_Yloop {post : Int32 → SY → Prop} {t : Nat → Int32} {l e : Nat} (he : e < 255) (h : post (nI (gf_gx (e * l))) t) : ∀ d k : Nat, k + d = e → wY_pow_76 post (nI (gf_gx l)) (nI e) t (d + 1) (nI (gf_gx (k * l))) (nI k) := by
  intro d
  induction d with
  | zero =>
    intro k hk
    obtain rfl : k = e := by omega
    exact br_t (nI_le (by omega) (by omega)) h
  | succ d ih =>
    intro k hk
    have hn := ih (k + 1) (by omega)
    rw [Nat.succ_mul, ← gf_mul] at hn
    exact br_f (nI_ge (by omega) (by omega)) (gf_times (gf_gx_lt _) (gf_gx_lt _) (nm_r (nI_1 k) hn))
theorem gf_Ypow {post : Int32 → SY → Prop} {t : Nat → Int32} {l e : Nat} {p : Int32} (he : e < 255) (hp : gf_ex p e) (h : post (nI (gf_gx (e * l))) t) : wpY_pow post t (nI (gf_gx l)) p := by
  have ha := gf_gx_lt l
  have za := gf_ne0 l
  have hl := gf_Yloop he h e 0 (by omega)
  rw [Nat.zero_mul] at hl
  unfold wpY_pow
  refine br_f (nI_pos (by omega)) (br_t (gf_le255 ha) (br_f (nI_ne0 (by omega) (by omega)) ⟨by decide, ?_⟩))
  rcases hp with ⟨c, q⟩ | ⟨c, q⟩
  · refine nm_e (br_t c ⟨e + 1, ?_⟩)
    rw [q]
    exact hl
  · exact nm_e (br_f c (nm_r q ⟨e + 1, hl⟩))
theorem gf_Xtail {post : Int32 → SX → Prop} {ex lo t : Nat → Int32} (T : gf_T ex lo) {l e : Nat} (hl : l < 255) (he : e < 255) (h : post (nI (gf_gx (e * l))) (ex, lo, t)) : wX_pow_78 post (nI (gf_gx l)) (nI e) ex lo t := by
  have ha := gf_gx_lt l
  have hb : l * e < 2 ^ 31 := Nat.lt_of_le_of_lt (Nat.mul_le_mul (Nat.le_of_lt hl) (Nat.le_of_lt he)) (by decide)
  have hr : nI l * nI e - nI l * nI e / 255 * 255 = nI (l * e % 255) := by
    rw [pk_mul]
    exact pk_rem (d := 255) hb (by omega) (by omega)
  have hm : l * e % 255 < 255 := Nat.mod_lt _ (by decide)
  unfold wX_pow_78
  refine ⟨vp_in_nI ha (by omega), nm_r (gf_lk T hl) ⟨by decide, nm_r hr ?_⟩⟩
  rw [nI_clamp (by omega), T.1 _ (by omega), gf_mod, Nat.mul_comm]
  exact ⟨vp_in_nI (by omega) (by omega), h⟩
theorem gf_Xpow {post : Int32 → SX → Prop} {ex lo t : Nat → Int32} (T : gf_T ex lo) {l e : Nat} {p : Int32} (hl : l < 255) (he : e < 255) (hp : gf_ex p e) (h : post (nI (gf_gx (e * l))) (ex, lo, t)) : wpX_pow post (ex, lo, t) (nI (gf_gx l)) p := by
  have ha := gf_gx_lt l
  have za := gf_ne0 l
  have ht := gf_Xtail T hl he h
  unfold wpX_pow
  dsimp only
  refine br_f (nI_pos (by omega)) (br_t (gf_le255 ha) (br_f (nI_ne0 (by omega) (by omega)) ⟨by decide, ?_⟩))
  rcases hp with ⟨c, q⟩ | ⟨c, q⟩
  · refine nm_e (br_t c ?_)
    rw [q]
    exact ht
  · exact nm_e (br_f c (nm_r q ht))
end
section
/-- the component's tables hold the powers and the logarithms; both sides' tallies are one array -/
def i_Rel (_ : Nat) (u : SX) (v : SY) : Prop := gf_T u.1 u.2.1 ∧ u.2.2 = v
theorem i_up {k : Nat} {u : SX} {v : SY} (h : i_Rel k u v) : i_Rel (k + 3) u v := h
theorem i_vc0 : wpX_init (fun u => wpY_init (fun v => i_Rel 0 u v)) :=
  ⟨256, gf_init (fun _ _ T => ⟨T, rfl⟩) 255 0 rfl _ _ (fun j hj => absurd hj (Nat.not_lt_zero j))⟩
theorem i_vc_mul {k : Nat} {u : SX} {v : SY} (I : i_Rel k u v) (hk : k + 3 ≤ 1536) (v1 : Int32) (v2 : Int32) : wpX_mul (fun r u' => wpY_mul (fun r' v' => r' = r ∧ i_Rel (k + 3) u' v') v v1 v2) u v1 v2 := by
  obtain ⟨ex, lo, t⟩ := u
  obtain ⟨T, e⟩ := I
  have T' : gf_T ex lo := T
  have e' : t = v := e
  subst e'
  by_cases h1 : v1 < 0
  · exact br_t h1 (fun a ea => br_t h1 (fun b eb => ⟨rfl, T', ea.trans eb.symm⟩))
  by_cases h2 : 255 < v1
  · exact br_f h1 (br_t h2 (fun a ea => br_f h1 (br_t h2 (fun b eb => ⟨rfl, T', ea.trans eb.symm⟩))))
  by_cases h3 : v2 < 0
  · exact br_f h1 (br_f h2 (br_t h3 (fun a ea => br_f h1 (br_f h2 (br_t h3 (fun b eb => ⟨rfl, T', ea.trans eb.symm⟩))))))
  by_cases h4 : v2 ≤ 255
  · obtain ⟨a, ha, rfl⟩ := gf_of h1 (Int32.not_lt.mp h2)
    obtain ⟨b, hb, rfl⟩ := gf_of h3 h4
    exact gf_Xmul T' ha hb (br_f h1 (br_f h2 (br_f h3 (br_t h4 (gf_times ha hb ⟨rfl, T', rfl⟩)))))
  · exact br_f h1 (br_f h2 (br_f h3 (br_f h4 (fun a ea => br_f h1 (br_f h2 (br_f h3 (br_f h4 (fun b eb => ⟨rfl, T', ea.trans eb.symm⟩))))))))
theorem i_vc_div {k : Nat} {u : SX} {v : SY} (I : i_Rel k u v) (hk : k + 3 ≤ 1536) (v1 : Int32) (v2 : Int32) : wpX_div (fun r u' => wpY_div (fun r' v' => r' = r ∧ i_Rel (k + 3) u' v') v v1 v2) u v1 v2 := by
  obtain ⟨ex, lo, t⟩ := u
  obtain ⟨T, e⟩ := I
  have T' : gf_T ex lo := T
  have e' : t = v := e
  subst e'
  by_cases h1 : v1 < 0
  · exact br_t h1 (fun a ea => br_t h1 (fun b eb => ⟨rfl, T', ea.trans eb.symm⟩))
  by_cases h2 : 255 < v1
  · exact br_f h1 (br_t h2 (fun a ea => br_f h1 (br_t h2 (fun b eb => ⟨rfl, T', ea.trans eb.symm⟩))))
  by_cases h3 : v2 < 0
  · exact br_f h1 (br_f h2 (br_t h3 (fun a ea => br_f h1 (br_f h2 (br_t h3 (fun b eb => ⟨rfl, T', ea.trans eb.symm⟩))))))
  by_cases h4 : v2 ≤ 255
  · by_cases h5 : v2 = 0
    · exact br_f h1 (br_f h2 (br_f h3 (br_t h4 (br_t h5 (fun a ea => br_f h1 (br_f h2 (br_f h3 (br_t h4 (br_t h5 (fun b eb => ⟨rfl, T', ea.trans eb.symm⟩))))))))))
    · obtain ⟨a, ha, rfl⟩ := gf_of h1 (Int32.not_lt.mp h2)
      obtain ⟨b, hb, rfl⟩ := gf_of h3 h4
      obtain ⟨j, hj, rfl⟩ := gf_log hb (fun z => h5 (by rw [z]; exact nI_0))
      by_cases za : a = 0
      · subst za
        refine br_f h1 (br_f h2 (br_f h3 (br_t h4 (br_f h5 (br_t nI_0 ?_)))))
        refine br_f h1 (br_f h2 (br_f h3 (br_t h4 (br_f h5 ?_))))
        refine gf_Ypow (e := 254) (by decide) gf_ex_254 (gf_times ha (gf_gx_lt _) ?_)
        rw [gf_tm_0l]
        exact ⟨rfl, T', rfl⟩
      · obtain ⟨i, hi, rfl⟩ := gf_log ha za
        refine gf_Xdiv T' hi hj ?_
        refine br_f h1 (br_f h2 (br_f h3 (br_t h4 (br_f h5 ?_))))
        refine gf_Ypow (e := 254) (by decide) gf_ex_254 (gf_times ha (gf_gx_lt _) ?_)
        rw [gf_mul, gf_div hj]
        exact ⟨rfl, T', rfl⟩
  · exact br_f h1 (br_f h2 (br_f h3 (br_f h4 (fun a ea => br_f h1 (br_f h2 (br_f h3 (br_f h4 (fun b eb => ⟨rfl, T', ea.trans eb.symm⟩))))))))
theorem i_vc_pow {k : Nat} {u : SX} {v : SY} (I : i_Rel k u v) (hk : k + 3 ≤ 1536) (v1 : Int32) (v2 : Int32) : wpX_pow (fun r u' => wpY_pow (fun r' v' => r' = r ∧ i_Rel (k + 3) u' v') v v1 v2) u v1 v2 := by
  obtain ⟨ex, lo, t⟩ := u
  obtain ⟨T, e⟩ := I
  have T' : gf_T ex lo := T
  have e' : t = v := e
  subst e'
  by_cases h1 : v1 < 0
  · exact br_t h1 (fun a ea => br_t h1 (fun b eb => ⟨rfl, T', ea.trans eb.symm⟩))
  by_cases h2 : v1 ≤ 255
  · by_cases h3 : v1 = 0
    · by_cases h4 : v2 = 0
      · exact br_f h1 (br_t h2 (br_t h3 (br_t h4 (br_f h1 (br_t h2 (br_t h3 (br_t h4 ⟨rfl, T', rfl⟩)))))))
      by_cases h5 : 0 ≤ v2
      · exact br_f h1 (br_t h2 (br_t h3 (br_f h4 (br_t h5 (br_f h1 (br_t h2 (br_t h3 (br_f h4 (br_t h5 ⟨rfl, T', rfl⟩)))))))))
      · exact br_f h1 (br_t h2 (br_t h3 (br_f h4 (br_f h5 (fun a ea => br_f h1 (br_t h2 (br_t h3 (br_f h4 (br_f h5 (fun b eb => ⟨rfl, T', ea.trans eb.symm⟩))))))))))
    · obtain ⟨a, ha, rfl⟩ := gf_of h1 h2
      obtain ⟨l, hl, rfl⟩ := gf_log ha (fun z => h3 (by rw [z]; exact nI_0))
      obtain ⟨e, he, hp⟩ := gf_ex_of v2
      exact gf_Xpow T' hl he hp (gf_Ypow he hp ⟨rfl, T', rfl⟩)
  · exact br_f h1 (br_f h2 (fun a ea => br_f h1 (br_f h2 (fun b eb => ⟨rfl, T', ea.trans eb.symm⟩))))
theorem i_vc_refusals {k : Nat} {u : SX} {v : SY} (I : i_Rel k u v) (hk : k + 3 ≤ 1536) (v1 : Int32) : wpX_refusals (fun r => wpY_refusals (fun r' => r' = r ∧ i_Rel (k + 3) u v) v v1) u v1 := by
  obtain ⟨ex, lo, t⟩ := u
  have e' : t = v := I.2
  subst e'
  have hi : vp_in (v1 &&& 1) 2 := pk_andIn v1 1 (by decide) (by decide)
  exact ⟨hi, hi, rfl, I⟩
end
