section
theorem pk_us {f : Nat → Int32} {k : Nat} {x : Int32} : upd f k x k = x := if_pos rfl
theorem pk_un {f : Nat → Int32} {k j : Nat} {x : Int32} (h : j ≠ k) : upd f k x j = f j := if_neg h
theorem pk_sub {a b : Nat} (h : b ≤ a) : nI a - nI b = nI (a - b) := by
  obtain ⟨c, rfl⟩ : ∃ c, a = c + b := ⟨a - b, by omega⟩
  rw [← nI_add, Int32.add_sub_cancel, Nat.add_sub_cancel]
theorem pk_m1 (n : Nat) : nI (n + 1) + (-1) = nI n := by
  rw [← nI_1, Int32.add_assoc, show (1 : Int32) + (-1) = 0 from rfl, Int32.add_zero]
theorem pk_mul (a b : Nat) : nI a * nI b = nI (a * b) := (Int32.ofNat_mul a b).symm
theorem pk_le {x y : Int32} {A B : Prop} (a b : Nat) (f : a ≤ b → A) (g : b < a → B) (hx : x = nI a := by rfl) (hy : y = nI b := by rfl) (ha : a < 2 ^ 31 := by omega) (hb : b < 2 ^ 31 := by omega) : (x ≤ y → A) ∧ (¬ x ≤ y → B) := by
  subst hx hy
  rw [nI_leI ha hb]
  exact ⟨f, fun z => g (by omega)⟩
theorem pk_lt {x y : Int32} {A B : Prop} (a b : Nat) (f : a < b → A) (g : b ≤ a → B) (hx : x = nI a := by rfl) (hy : y = nI b := by rfl) (ha : a < 2 ^ 31 := by omega) (hb : b < 2 ^ 31 := by omega) : (x < y → A) ∧ (¬ x < y → B) := by
  subst hx hy
  rw [nI_ltI ha hb]
  exact ⟨f, fun z => g (by omega)⟩
theorem pk_eq {x y : Int32} {A B : Prop} (a b : Nat) (f : a = b → A) (g : a ≠ b → B) (hx : x = nI a := by rfl) (hy : y = nI b := by rfl) (ha : a < 2 ^ 31 := by omega) (hb : b < 2 ^ 31 := by omega) : (x = y → A) ∧ (¬ x = y → B) := by
  subst hx hy
  rw [nI_eq ha hb]
  exact ⟨f, g⟩
theorem pk_tn {n : Nat} (h : n < 2 ^ 32) : (nI n).toBitVec.toNat = n := Nat.mod_eq_of_lt h
theorem pk_and (x : Int32) {m : Int32} (k : Nat) (hm : m.toBitVec.toNat = 2 ^ k - 1) : x &&& m = nI (x.toBitVec.toNat % 2 ^ k) := by
  apply Int32.toBitVec_inj.mp
  apply BitVec.eq_of_toNat_eq
  rw [Int32.toBitVec_and, BitVec.toNat_and, hm, Nat.and_two_pow_sub_one_eq_mod]
  show _ = (BitVec.ofNat 32 _).toNat
  rw [BitVec.toNat_ofNat]
  exact (Nat.mod_eq_of_lt (Nat.lt_of_le_of_lt (Nat.mod_le _ _) x.toBitVec.isLt)).symm
theorem pk_andN {n : Nat} (h : n < 2 ^ 32) {m : Int32} (k : Nat) (hm : m.toBitVec.toNat = 2 ^ k - 1) : nI n &&& m = nI (n % 2 ^ k) := by
  rw [pk_and _ k hm, pk_tn h]
theorem pk_shl (a s : Int32) (k : Nat) (hs : (s.toBitVec.smod 32).toNat = k) : (a <<< s).toBitVec.toNat = a.toBitVec.toNat * 2 ^ k % 2 ^ 32 := by
  show (a.toBitVec <<< (s.toBitVec.smod 32).toNat).toNat = _
  rw [hs, BitVec.toNat_shiftLeft, Nat.shiftLeft_eq]
theorem pk_shlN {n : Nat} (s : Int32) (k : Nat) (hs : (s.toBitVec.smod 32).toNat = k) (h : n * 2 ^ k < 2 ^ 32) : nI n <<< s = nI (n * 2 ^ k) := by
  apply Int32.toBitVec_inj.mp
  apply BitVec.eq_of_toNat_eq
  have hn : n < 2 ^ 32 := Nat.lt_of_le_of_lt (Nat.le_mul_of_pos_right n (Nat.two_pow_pos k)) h
  rw [pk_shl _ _ k hs, pk_tn hn, pk_tn h, Nat.mod_eq_of_lt h]
theorem pk_shr (a s : Int32) (k : Nat) (hs : (s.toBitVec.smod 32).toNat = k) : (a >>> s).toInt = a.toInt >>> k := by
  show (a.toBitVec.sshiftRight (s.toBitVec.smod 32).toNat).toInt = _
  rw [hs, BitVec.toInt_sshiftRight]
  rfl
theorem pk_shrN {n : Nat} (h : n < 2 ^ 31) (s : Int32) (k : Nat) (hs : (s.toBitVec.smod 32).toNat = k) : nI n >>> s = nI (n / 2 ^ k) := by
  apply Int32.toInt_inj.mp
  have h2 : n / 2 ^ k ≤ n := Nat.div_le_self _ _
  rw [pk_shr _ _ k hs, nI_toInt h, nI_toInt (by omega), Int.shiftRight_eq_div_pow]
  rfl
theorem pk_vb (z : Int32) : vp_nar .byte z.toInt8.toInt32 = z.toInt8.toInt32 := by rw [vp_nar_byte]; simp
theorem pk_lT {n : Nat} (h : n < 2 ^ 63) : (lN n).toInt = (n : Int) := lg_ofNat_toInt h
theorem pk_lLT {a b : Nat} (ha : a < 2 ^ 63) (hb : b < 2 ^ 63) : lN a < lN b ↔ a < b := by
  rw [Int64.lt_iff_toInt_lt, pk_lT ha, pk_lT hb]; omega
theorem bp_b (x : Int32) : x.toInt8.toInt32 &&& 255 = x &&& 255 := by
  apply Int32.toBitVec_inj.mp
  rw [Int32.toBitVec_and, Int32.toBitVec_and, Int8.toBitVec_toInt32, Int32.toBitVec_toInt8]
  apply BitVec.eq_of_getLsbD_eq
  intro i hi
  rw [BitVec.getLsbD_and, BitVec.getLsbD_and]
  have hm : ∀ i < 32, 8 ≤ i → (255 : Int32).toBitVec.getLsbD i = false := by decide
  rcases Nat.lt_or_ge i 8 with z | z
  · rw [BitVec.getLsbD_signExtend, BitVec.getLsbD_signExtend, if_pos z, if_pos hi]
    simp only [z, hi, decide_true, Bool.true_and]
  · rw [hm i hi z]; simp
theorem wb_tb (n : Nat) : (lN n).toBitVec = BitVec.ofNat 64 n := rfl
theorem wb_inj {a b : Int64} (h : a.toBitVec = b.toBitVec) : a = b := Int64.toBitVec_inj.mp h
theorem wb_tn {n : Nat} (h : n < 2 ^ 64) : (lN n).toBitVec.toNat = n := by rw [wb_tb, BitVec.toNat_ofNat, Nat.mod_eq_of_lt h]
theorem wb_c : ∀ k, k < 64 → ((nI k).toInt64 &&& 63) = lN k := by decide +kernel
theorem wb_sm : ∀ k, k < 64 → (BitVec.ofNat 64 k).smod 64 = BitVec.ofNat 64 k := by decide +kernel
theorem wb_pw {a b : Nat} (h : a ≤ b) : 2 ^ b = 2 ^ a * 2 ^ (b - a) := by rw [← Nat.pow_add]; congr 1; omega
theorem wb_lt2 {a b : Nat} (h : a < b) : 2 ^ a < 2 ^ b := Nat.pow_lt_pow_right (by decide) h
theorem wb_shl (n : Nat) {k : Nat} (hk : k < 64) : lN n <<< ((nI k).toInt64 &&& 63) = lN (n * 2 ^ k) := by
  rw [wb_c k hk]
  apply wb_inj
  rw [Int64.toBitVec_shiftLeft, wb_tb, wb_tb, wb_tb, wb_sm k hk]
  apply BitVec.eq_of_toNat_eq
  rw [BitVec.shiftLeft_eq', BitVec.toNat_shiftLeft, BitVec.toNat_ofNat, BitVec.toNat_ofNat, BitVec.toNat_ofNat, Nat.mod_eq_of_lt (show k < 2 ^ 64 by omega), Nat.shiftLeft_eq, Nat.mul_mod, Nat.mod_mod, ← Nat.mul_mod]
theorem wb_and {a b : Nat} (ha : a < 2 ^ 64) (hb : b < 2 ^ 64) : lN a &&& lN b = lN (a &&& b) := by
  apply wb_inj
  rw [Int64.toBitVec_and, wb_tb, wb_tb, wb_tb]
  apply BitVec.eq_of_toNat_eq
  rw [BitVec.toNat_and, BitVec.toNat_ofNat, BitVec.toNat_ofNat, BitVec.toNat_ofNat, Nat.mod_eq_of_lt ha, Nat.mod_eq_of_lt hb, Nat.mod_eq_of_lt (Nat.and_lt_two_pow _ hb)]
theorem wb_mask {n k : Nat} (hn : n < 2 ^ 64) (hk : k < 64) : lN n &&& lN (2 ^ k - 1) = lN (n % 2 ^ k) := by
  rw [wb_and hn (by have := wb_lt2 hk; omega), Nat.and_two_pow_sub_one_eq_mod]
theorem pf_lI {a : Nat} (h : a < 2 ^ 63) : (lN a).toInt = (a : Int) := lg_ofNat_toInt h
theorem pf_shr {a d : Nat} {D : Int64} (hD : (D.toBitVec.smod 64).toNat = d) (h : a < 2 ^ 62) : lN a >>> D = lN (a / 2 ^ d) := by
  have hd : a / 2 ^ d ≤ a := Nat.div_le_self _ _
  apply Int64.toInt_inj.mp
  have e : (lN a >>> D).toInt = (lN a).toInt >>> d := by
    rw [← hD]
    exact BitVec.toInt_sshiftRight ..
  rw [e, Int.shiftRight_eq_div_pow, pf_lI (by omega), pf_lI (by omega)]
  rfl
end
section
/-! a byte of the code value, as the component's array holds it: the low eight bits, signed -/
def bc_d (n : Nat) : Int32 := (nI n).toInt8.toInt32
theorem bc_dm {a b : Nat} (h : a % 256 = b % 256) : bc_d a = bc_d b := by
  unfold bc_d nI
  rw [Int32.toInt8_ofNat', Int32.toInt8_ofNat']
  have e : Int8.ofNat a = Int8.ofNat b := by
    apply Int8.toBitVec_inj.mp
    apply BitVec.eq_of_toNat_eq
    show (BitVec.ofNat 8 a).toNat = (BitVec.ofNat 8 b).toNat
    rw [BitVec.toNat_ofNat, BitVec.toNat_ofNat]
    exact h
  rw [e]
theorem bc_and (n : Nat) : bc_d n &&& 255 = nI (n % 256) := by
  rw [bc_dm (a := n) (b := n % 256) (by omega)]
  unfold bc_d
  rw [bp_b, pk_andN (by omega) 8 (by decide)]
  exact congrArg nI (by omega)
theorem bc_d0 : bc_d 0 = 0 := by decide +kernel
theorem bc_z0 {n : Nat} (h : n % 256 = 0) : bc_d n = 0 := by
  rw [bc_dm (a := n) (b := 0) (by omega), bc_d0]
theorem bc_z1 {n : Nat} (h : ¬ n % 256 = 0) : ¬ bc_d n = 0 := by
  intro z
  have e := bc_and n
  rw [z] at e
  have e2 : nI 0 = nI (n % 256) := by rw [← e]; decide +kernel
  exact h ((nI_eq (by omega) (by omega)).mp e2).symm
theorem bc_inc (n : Nat) : vp_nar .byte ((bc_d n + 1).toInt8.toInt32) = bc_d (n + 1) := by
  rw [pk_vb]
  unfold bc_d
  rw [nI_succ, Int32.toInt8_add, Int32.toInt8_add, Int8.toInt8_toInt32]
theorem bc_st (n : Nat) : vp_nar .byte ((lN n).toInt32.toInt8.toInt32) = bc_d n := by
  rw [pk_vb, lN_i]; rfl
theorem bc_amt {k : Nat} (hk : k < 64) : (((nI k).toInt64 &&& 63).toBitVec.smod 64).toNat = k := by
  rw [wb_c k hk, wb_tb, wb_sm k hk, BitVec.toNat_ofNat]
  omega
/-! the picture of both states: range r, the whole code value V, q bytes out, c further shifts -/
def bc_I (r V q c : Nat) (a : Nat → Int32) : Prop := 1 ≤ r ∧ r ≤ 255 ∧ c < 8 ∧ q ≤ 6 ∧ 8 * q + c ≤ 54 ∧ V + r ≤ 255 * 2 ^ (8 * q + c) ∧ ∀ i, i < q → a i = bc_d (V / 2 ^ (8 * q + c - 8 * i))
theorem bc_V {r V q c : Nat} {a : Nat → Int32} (h : bc_I r V q c a) : V < 2 ^ 62 := by
  obtain ⟨h1, _, _, _, h5, h6, _⟩ := h
  have hp : 2 ^ (8 * q + c) ≤ 2 ^ 54 := Nat.pow_le_pow_right (by decide) h5
  generalize 2 ^ (8 * q + c) = P at h6 hp
  omega
theorem bc_L {V c : Nat} (hc : c < 8) : V % 2 ^ (8 + c) < 32768 := by
  have hp : 2 ^ (8 + c) ≤ 2 ^ 15 := Nat.pow_le_pow_right (by decide) (by omega)
  have h := Nat.mod_lt V (Nat.two_pow_pos (8 + c))
  omega
theorem bc_VH {V q c i : Nat} (h : i < q) : V / 2 ^ (8 * q + c - 8 * i) = V / 2 ^ (8 + c) / 2 ^ (8 * (q - 1 - i)) := by
  have e : 8 * q + c - 8 * i = 8 + c + 8 * (q - 1 - i) := by omega
  rw [e, Nat.pow_add, Nat.div_div_eq_div_mul]
/-! a shift keeps the bytes that are out -/
theorem bc_sh {V s k i : Nat} (h : 8 * i ≤ s) : V * 2 ^ k / 2 ^ (s + k - 8 * i) = V / 2 ^ (s - 8 * i) := by
  have e : s + k - 8 * i = (s - 8 * i) + k := by omega
  rw [e, Nat.pow_add, Nat.mul_div_mul_right _ _ (Nat.two_pow_pos k)]
theorem bc_bd {V r s k r' : Nat} (h : V + r ≤ 255 * 2 ^ s) (hr : r' ≤ r * 2 ^ k) : V * 2 ^ k + r' ≤ 255 * 2 ^ (s + k) := by
  have h2 := Nat.mul_le_mul_right (2 ^ k) h
  rw [Nat.add_mul, Nat.mul_assoc, ← Nat.pow_add] at h2
  omega
theorem bc_low {V c k : Nat} : V % 2 ^ (8 + c) * 2 ^ k = V * 2 ^ k % 2 ^ (8 + (c + k)) := by
  rw [show 8 + (c + k) = (8 + c) + k from by omega, Nat.pow_add 2 (8 + c) k, Nat.mul_mod_mul_right]
/-- a shift within the byte -/
theorem bc_in {r V q c k r' : Nat} {a : Nat → Int32} (h : bc_I r V q c a) (h1 : 1 ≤ r') (h2 : r' ≤ 255) (hr : r' ≤ r * 2 ^ k) (hc : c + k < 8) (hs : 8 * q + c + k ≤ 54) : bc_I r' (V * 2 ^ k) q (c + k) a := by
  obtain ⟨_, _, _, g4, _, g6, g7⟩ := h
  refine ⟨h1, h2, hc, g4, by omega, by rw [← Nat.add_assoc]; exact bc_bd g6 hr, fun i hi => ?_⟩
  rw [g7 i hi, ← Nat.add_assoc, bc_sh (by omega)]
/-- a shift that fills the byte -/
theorem bc_full {r V q c k r' : Nat} {a : Nat → Int32} (h : bc_I r V q c a) (h1 : 1 ≤ r') (h2 : r' ≤ 255) (hr : r' ≤ r * 2 ^ k) (hc : c + k = 8) (hq : q < 6) : bc_I r' (V * 2 ^ k) (q + 1) 0 (upd a q (bc_d (V % 2 ^ (8 + c) * 2 ^ k / 2 ^ 8))) := by
  obtain ⟨_, _, _, _, _, g6, g7⟩ := h
  have es : 8 * (q + 1) + 0 = 8 * q + c + k := by omega
  refine ⟨h1, h2, by omega, by omega, by omega, ?_, fun i hi => ?_⟩
  · rw [es]; exact bc_bd g6 hr
  · rw [es]
    by_cases e : i = q
    · subst e
      rw [pk_us, bc_low, hc, show 8 * i + c + k - 8 * i = 8 from by omega]
      apply bc_dm
      omega
    · rw [pk_un e, g7 i (by omega), bc_sh (by omega)]
theorem bc_low0 {V c k : Nat} (hc : c + k = 8) : V % 2 ^ (8 + c) * 2 ^ k % 2 ^ 8 = V * 2 ^ k % 2 ^ (8 + 0) := by
  rw [bc_low, hc]
  omega
/-! the count of shifts that brings a range home -/
theorem bc_k {r : Nat} (h1 : 1 ≤ r) (h2 : r ≤ 255) : ∃ k, k ≤ 7 ∧ 128 ≤ r * 2 ^ k ∧ r * 2 ^ k ≤ 255 := by
  by_cases g1 : r < 2
  · exact ⟨7, by omega, by omega, by omega⟩
  by_cases g2 : r < 4
  · exact ⟨6, by omega, by omega, by omega⟩
  by_cases g3 : r < 8
  · exact ⟨5, by omega, by omega, by omega⟩
  by_cases g4 : r < 16
  · exact ⟨4, by omega, by omega, by omega⟩
  by_cases g5 : r < 32
  · exact ⟨3, by omega, by omega, by omega⟩
  by_cases g6 : r < 64
  · exact ⟨2, by omega, by omega, by omega⟩
  by_cases g7 : r < 128
  · exact ⟨1, by omega, by omega, by omega⟩
  · exact ⟨0, by omega, by omega, by omega⟩
theorem bc_kl {r j k : Nat} (hj : 128 ≤ r * 2 ^ j) (hk : r * 2 ^ k ≤ 255) : k ≤ j := by
  rcases Nat.lt_or_ge j k with h | h
  · exfalso
    obtain ⟨d, rfl⟩ : ∃ d, k = j + 1 + d := ⟨k - (j + 1), by omega⟩
    rw [Nat.pow_add, Nat.pow_succ, ← Nat.mul_assoc, ← Nat.mul_assoc] at hk
    have hd := Nat.two_pow_pos d
    have := Nat.mul_le_mul_left (r * 2 ^ j * 2) (show 1 ≤ 2 ^ d from hd)
    omega
  · exact h
/-! the split -/
theorem bc_t {r p : Nat} (hr : 128 ≤ r) (hr2 : r ≤ 255) (hp : p ≤ 255) : 1 + (r - 1) * p / 2 ^ 8 + 1 ≤ r ∧ (r - 1) * p < 65536 := by
  have h := Nat.mul_le_mul_left (r - 1) hp
  generalize (r - 1) * p = x at h
  omega
theorem bc_split {r p : Nat} (hr : 128 ≤ r) (hr2 : r ≤ 255) (hp : p ≤ 255) : (1 : Int32) + (((nI r - 1) * nI p) >>> ((8 : Int32) &&& 31)) = nI (1 + (r - 1) * p / 2 ^ 8) := by
  have e : nI r - 1 = nI (r - 1) := by
    have := pk_sub (a := r) (b := 1) (by omega)
    exact this
  rw [e, pk_mul, pk_shrN (by have := (bc_t hr hr2 hp).2; omega) _ 8 (by decide)]
  exact nI_add 1 _
end
section
/-! the component's carry: from the last byte upward, H becomes H + 1 -/
theorem bc_carry {post : Int32 → SX → Prop} {fr : Int32} {fl : Int64} {fc fq : Int32} {H q : Nat} (hq : q ≤ 6)
    (K : ∀ a : Nat → Int32, (∀ i, i < q → a i = bc_d ((H + 1) / 2 ^ (8 * (q - 1 - i)))) → ∃ n, wX_put_157 post n fr fl fc fq a) :
    ∀ (m : Nat) (a : Nat → Int32), m ≤ q → (∀ i, i < m → a i = bc_d (H / 2 ^ (8 * (q - 1 - i)))) → (∀ i, m ≤ i → i < q → a i = bc_d ((H + 1) / 2 ^ (8 * (q - 1 - i)))) → (H + 1) % 2 ^ (8 * (q - m)) = 0 →
      wX_put_116 post fr fl fc fq (m + 2) (nI m - 1) 1 a := by
  intro m
  induction m with
  | zero =>
    intro a _ _ h2 _
    have z1 : ¬ (1 : Int32) = 0 := by decide
    have z2 : nI 0 - 1 < 0 := by decide +kernel
    exact br_f z1 (br_t z2 (K a fun i hi => h2 i (Nat.zero_le i) hi))
  | succ m ih =>
    intro a hm h1 h2 h3
    have z1 : ¬ (1 : Int32) = 0 := by decide
    have hin : vp_in (nI m) 6 := vp_in_nI (by omega) (by omega)
    have hcl : (nI m).toNatClampNeg = m := nI_clamp (by omega)
    have hlow : nI m + (-1) = nI m - 1 := by rw [Int32.sub_eq_add_neg]
    have ep : q - (m + 1) = q - 1 - m := by omega
    rw [ep] at h3
    have ei : H / 2 ^ (8 * (q - 1 - m)) + 1 = (H + 1) / 2 ^ (8 * (q - 1 - m)) := (Nat.succ_div_of_mod_eq_zero h3).symm
    have eq : 2 ^ (8 * (q - m)) = 2 ^ (8 * (q - 1 - m)) * 256 := by
      rw [show 8 * (q - m) = 8 * (q - 1 - m) + 8 from by omega, Nat.pow_add]
    rw [nI_pred]
    refine br_f z1 (br_f (nI_pos (by omega)) ⟨hin, ⟨hin, fun b eb => ⟨hin, ?_⟩⟩⟩)
    rw [hcl, h1 m (by omega), bc_inc, ei] at eb
    have hbm : b m = bc_d ((H + 1) / 2 ^ (8 * (q - 1 - m))) := by rw [eb, pk_us]
    have hbn : ∀ i, i ≠ m → b i = a i := fun i hi => by rw [eb, pk_un hi]
    have hlo : ∀ i, i < m → b i = bc_d (H / 2 ^ (8 * (q - 1 - i))) := fun i hi => by rw [hbn i (by omega), h1 i (by omega)]
    have hhi : ∀ i, m ≤ i → i < q → b i = bc_d ((H + 1) / 2 ^ (8 * (q - 1 - i))) := fun i hi hi2 => by
      by_cases e : i = m
      · rw [e]; exact hbm
      · rw [hbn i e, h2 i (by omega) hi2]
    rw [hcl]
    by_cases z : (H + 1) / 2 ^ (8 * (q - 1 - m)) % 256 = 0
    · refine br_t (by rw [hbm]; exact bc_z0 z) (nm_r hlow ?_)
      refine ih b (by omega) hlo hhi ?_
      rw [eq, Nat.mod_mul, h3, z, Nat.mul_zero]
    · refine br_f (by rw [hbm]; exact bc_z1 z) (nm_e ?_)
      refine br_t rfl (K b fun i hi => ?_)
      rcases Nat.lt_or_ge i m with hi2 | hi2
      · rw [hlo i hi2]
        have e2 : 2 ^ (8 * (q - 1 - i)) = 2 ^ (8 * (q - m)) * 2 ^ (8 * (m - 1 - i)) := by
          rw [← Nat.pow_add]
          exact congrArg (2 ^ ·) (by omega)
        have hne : (H + 1) % 2 ^ (8 * (q - m)) ≠ 0 := by
          rw [eq, Nat.mod_mul, h3, Nat.zero_add]
          intro y
          rcases Nat.mul_eq_zero.mp y with y | y
          · have := Nat.two_pow_pos (8 * (q - 1 - m)); omega
          · exact z y
        rw [e2, ← Nat.div_div_eq_div_mul, ← Nat.div_div_eq_div_mul, Nat.succ_div_of_mod_ne_zero hne]
      · exact hhi i hi2 hi
/-! the component's shifts, one at a time -/
theorem bc_x157 {post : Int32 → SX → Prop} {R W S : Nat} (hR : 128 ≤ R) (hR2 : R ≤ 255) (hS : S ≤ 54)
    (K : ∀ (q c : Nat) (a : Nat → Int32), bc_I R W q c a → 8 * q + c = S → post (nI R) (nI R, lN (W % 2 ^ (8 + c)), nI c, nI q, a)) :
    ∀ (k r V q c : Nat) (a : Nat → Int32), bc_I r V q c a → r * 2 ^ k = R → V * 2 ^ k = W → 8 * q + c + k = S → wX_put_157 post (k + 1) (nI r) (lN (V % 2 ^ (8 + c))) (nI c) (nI q) a := by
  intro k
  induction k with
  | zero =>
    intro r V q c a I e1 e2 e3
    rw [Nat.pow_zero, Nat.mul_one] at e1 e2
    subst e1 e2
    exact br_t (nI_le (a := 128) hR (by omega)) (K q c a I e3)
  | succ k ih =>
    intro r V q c a I e1 e2 e3
    obtain ⟨g1, g2, g3, g4, g5, g6, g7⟩ := I
    have I : bc_I r V q c a := ⟨g1, g2, g3, g4, g5, g6, g7⟩
    have e1' : r * 2 * 2 ^ k = R := by rw [← e1, Nat.pow_succ, Nat.mul_assoc, Nat.mul_comm 2]
    have e2' : V * 2 * 2 ^ k = W := by rw [← e2, Nat.pow_succ, Nat.mul_assoc, Nat.mul_comm 2]
    have hr : r * 2 ≤ 255 := by
      have hk := Nat.two_pow_pos k
      have := Nat.mul_le_mul_left (r * 2) (show 1 ≤ 2 ^ k from hk)
      omega
    have hL : V % 2 ^ (8 + c) < 32768 := bc_L g3
    have er : nI r <<< ((1 : Int32) &&& 31) = nI (r * 2) := pk_shlN (n := r) _ 1 (by decide) (by omega)
    have el : lN (V % 2 ^ (8 + c)) <<< ((1 : Int32).toInt64 &&& 63) = lN (V % 2 ^ (8 + c) * 2) := wb_shl (k := 1) _ (by decide)
    refine br_f (nI_ge (b := 128) (by omega) (by decide)) (nm_r er (nm_r el (nm_r (nI_1 c) ?_)))
    by_cases h8 : c + 1 = 8
    · have hq : q < 6 := by omega
      have es : lN (V % 2 ^ (8 + c) * 2) >>> ((8 : Int32).toInt64 &&& 63) = lN (V % 2 ^ (8 + c) * 2 / 2 ^ 8) := pf_shr (bc_amt (k := 8) (by decide)) (by omega)
      have em : lN (V % 2 ^ (8 + c) * 2) &&& 255 = lN (V % 2 ^ (8 + c) * 2 % 2 ^ 8) := wb_mask (k := 8) (by omega) (by decide)
      have J := bc_full (k := 1) (r' := r * 2) I (by omega) hr (by omega) h8 hq
      have e0 := bc_low0 (V := V) h8
      rw [Nat.pow_one] at J e0
      refine br_t (congrArg nI h8) (nm_r (nI_1 q) ⟨vp_in_nI hq (by decide), ?_⟩)
      rw [es, bc_st, nI_clamp (by omega), em, e0]
      exact nm_e (nm_e (ih (r * 2) (V * 2) (q + 1) 0 _ J e1' e2' (by omega)))
    · have J := bc_in (k := 1) (r' := r * 2) I (by omega) hr (by omega) (by omega) (by omega)
      have e0 := bc_low (V := V) (c := c) (k := 1)
      rw [Nat.pow_one] at J e0
      refine br_f (fun z => h8 ((nI_eq (b := 8) (by omega) (by decide)).mp z)) ?_
      rw [e0]
      exact ih (r * 2) (V * 2) q (c + 1) a J e1' e2' (by omega)
end
section
/-! the component behind the split: carry, then shifts -/
theorem bc_x73 {post : Int32 → SX → Prop} {r0 r t V q c k : Nat} {a : Nat → Int32} (I : bc_I r0 V q c a) (hr : 1 ≤ r) (ht : r + t ≤ r0) (hk : 128 ≤ r * 2 ^ k) (hk2 : r * 2 ^ k ≤ 255) (hs : 8 * q + c + k ≤ 54)
    (K : ∀ (q' c' : Nat) (a' : Nat → Int32), bc_I (r * 2 ^ k) ((V + t) * 2 ^ k) q' c' a' → 8 * q' + c' = 8 * q + c + k → post (nI (r * 2 ^ k)) (nI (r * 2 ^ k), lN ((V + t) * 2 ^ k % 2 ^ (8 + c')), nI c', nI q', a')) :
    wX_put_73 post (nI r) (lN (V % 2 ^ (8 + c) + t)) (nI c) (nI q) a := by
  obtain ⟨g1, g2, g3, g4, g5, g6, g7⟩ := I
  have G : ∀ a' : Nat → Int32, (∀ i, i < q → a' i = bc_d ((V + t) / 2 ^ (8 + c) / 2 ^ (8 * (q - 1 - i)))) → ∃ n, wX_put_157 post n (nI r) (lN ((V + t) % 2 ^ (8 + c))) (nI c) (nI q) a' := by
    intro a' ha
    refine ⟨k + 1, bc_x157 hk hk2 hs K k r (V + t) q c a' ⟨hr, by omega, g3, g4, g5, by omega, fun i hi => ?_⟩ rfl rfl rfl⟩
    rw [ha i hi, bc_VH hi]
  have e1 : (1 : Int64) <<< ((8 + nI c).toInt64 &&& 63) = lN (2 ^ (8 + c)) := by
    have e : (8 : Int32) + nI c = nI (8 + c) := nI_add 8 c
    rw [e]
    have := wb_shl 1 (show 8 + c < 64 by omega)
    rw [Nat.one_mul] at this
    exact this
  have hM : 2 ^ (8 + c) ≤ 2 ^ 15 := Nat.pow_le_pow_right (by decide) (by omega)
  have hM2 : 2 ^ 8 ≤ 2 ^ (8 + c) := Nat.pow_le_pow_right (by decide) (by omega)
  have hL := Nat.mod_lt V (Nat.two_pow_pos (8 + c))
  have hV := Nat.div_add_mod V (2 ^ (8 + c))
  refine nm_r e1 ?_
  by_cases h : V % 2 ^ (8 + c) + t < 2 ^ (8 + c)
  · have ed : (V + t) / 2 ^ (8 + c) = V / 2 ^ (8 + c) := by
      conv => lhs; rw [← hV, Nat.add_assoc, Nat.add_comm, Nat.add_mul_div_left _ _ (Nat.two_pow_pos (8 + c)), Nat.div_eq_of_lt h, Nat.zero_add]
    have em : (V + t) % 2 ^ (8 + c) = V % 2 ^ (8 + c) + t := by
      conv => lhs; rw [← hV, Nat.add_assoc, Nat.add_comm, Nat.add_mul_mod_self_left, Nat.mod_eq_of_lt h]
    refine br_t ((pk_lLT (by omega) (by omega)).mpr h) ?_
    rw [← em]
    refine G a fun i hi => ?_
    rw [g7 i hi, bc_VH hi, ed]
  · have hlt : V % 2 ^ (8 + c) + t - 2 ^ (8 + c) < 2 ^ (8 + c) := by omega
    have es : V + t = (V % 2 ^ (8 + c) + t - 2 ^ (8 + c)) + 2 ^ (8 + c) * (V / 2 ^ (8 + c) + 1) := by
      rw [Nat.mul_add, Nat.mul_one]; omega
    have ed : (V + t) / 2 ^ (8 + c) = V / 2 ^ (8 + c) + 1 := by
      conv => lhs; rw [es, Nat.add_mul_div_left _ _ (Nat.two_pow_pos (8 + c)), Nat.div_eq_of_lt hlt, Nat.zero_add]
    have em : (V + t) % 2 ^ (8 + c) = V % 2 ^ (8 + c) + t - 2 ^ (8 + c) := by
      conv => lhs; rw [es, Nat.add_mul_mod_self_left, Nat.mod_eq_of_lt hlt]
    refine br_f (fun z => h ((pk_lLT (by omega) (by omega)).mp z)) (nm_r (lN_sub (by omega)) (nm_e ⟨q + 2, ?_⟩))
    rw [← em]
    rw [ed] at G
    exact bc_carry g4 G q a (Nat.le_refl q) (fun i hi => by rw [g7 i hi, bc_VH hi]) (fun i hi hi2 => absurd hi2 (by omega)) (by rw [Nat.sub_self, Nat.mul_zero, Nat.pow_zero, Nat.mod_one])
/-! the reference's three shifts -/
theorem bc_y143 {post : Int32 → SY → Prop} {k R V s : Nat} (hk : k < 64) (K : post (nI R) (nI R, lN (V * 2 ^ k), nI (s + k))) : wY_put_143 post (nI k) (nI R) (lN V) (nI s) :=
  nm_r (wb_shl V hk) (nm_r (nI_add s k) K)
theorem bc_y120 {post : Int32 → SY → Prop} {k r V s : Nat} (hk : k ≤ 6) (hr : 64 ≤ r * 2 ^ k) (hr2 : r * 2 ^ k ≤ 255)
    (K : ∀ j, 128 ≤ r * 2 ^ j → r * 2 ^ j ≤ 255 → post (nI (r * 2 ^ j)) (nI (r * 2 ^ j), lN (V * 2 ^ j), nI (s + j))) : wY_put_120 post (nI k) (nI (r * 2 ^ k)) (lN V) (nI s) := by
  by_cases h : 128 ≤ r * 2 ^ k
  · exact br_t (nI_le (a := 128) h (by omega)) (bc_y143 (by omega) (K k h hr2))
  · have e : r * 2 ^ k * 2 ^ 1 = r * 2 ^ (k + 1) := by rw [Nat.mul_assoc, ← Nat.pow_add]
    have es : nI (r * 2 ^ k) <<< ((1 : Int32) &&& 31) = nI (r * 2 ^ (k + 1)) := by rw [← e]; exact pk_shlN _ 1 (by decide) (by omega)
    exact br_f (nI_ge (b := 128) (by omega) (by decide)) (nm_r es (nm_r (nI_1 k) (bc_y143 (by omega) (K (k + 1) (by omega) (by omega)))))
theorem bc_y98 {post : Int32 → SY → Prop} {k r V s : Nat} (hk : k ≤ 4) (hr : 16 ≤ r * 2 ^ k) (hr2 : r * 2 ^ k ≤ 255)
    (K : ∀ j, 128 ≤ r * 2 ^ j → r * 2 ^ j ≤ 255 → post (nI (r * 2 ^ j)) (nI (r * 2 ^ j), lN (V * 2 ^ j), nI (s + j))) : wY_put_98 post (nI k) (nI (r * 2 ^ k)) (lN V) (nI s) := by
  by_cases h : 64 ≤ r * 2 ^ k
  · exact br_t (nI_le (a := 64) h (by omega)) (bc_y120 (by omega) h hr2 K)
  · have e : r * 2 ^ k * 2 ^ 2 = r * 2 ^ (k + 2) := by rw [Nat.mul_assoc, ← Nat.pow_add]
    have es : nI (r * 2 ^ k) <<< ((2 : Int32) &&& 31) = nI (r * 2 ^ (k + 2)) := by rw [← e]; exact pk_shlN _ 2 (by decide) (by omega)
    exact br_f (nI_ge (b := 64) (by omega) (by decide)) (nm_r es (nm_r (nI_add k 2) (bc_y120 (by omega) (by omega) (by omega) K)))
theorem bc_y73 {post : Int32 → SY → Prop} {r V s : Nat} (hr : 1 ≤ r) (hr2 : r ≤ 255)
    (K : ∀ j, 128 ≤ r * 2 ^ j → r * 2 ^ j ≤ 255 → post (nI (r * 2 ^ j)) (nI (r * 2 ^ j), lN (V * 2 ^ j), nI (s + j))) : wY_put_73 post (nI r) (lN V) (nI s) := by
  by_cases h : 16 ≤ r
  · have h0 := bc_y98 (post := post) (k := 0) (r := r) (V := V) (s := s) (by omega) (by omega) (by omega) K
    rw [Nat.pow_zero, Nat.mul_one] at h0
    exact br_t (nI_le (a := 16) h (by omega)) h0
  · have es : nI r <<< ((4 : Int32) &&& 31) = nI (r * 2 ^ 4) := pk_shlN _ 4 (by decide) (by omega)
    exact br_f (nI_ge (b := 16) (by omega) (by decide)) (nm_r es (nm_r (nI_add 0 4) (bc_y98 (k := 4) (by omega) (by omega) (by omega) K)))
end
section
/-- the relation at the head of a turn: one range, one code value V; the component holds V's high bytes in buf, the rest in low; no bound grows with k -/
def i_Rel (_k : Nat) (u : SX) (v : SY) : Prop := ∃ (r V q c : Nat) (a : Nat → Int32), 128 ≤ r ∧ bc_I r V q c a ∧ u = (nI r, lN (V % 2 ^ (8 + c)), nI c, nI q, a) ∧ v = (nI r, lN V, nI (8 * q + c))
theorem i_up {k : Nat} {u : SX} {v : SY} (h : i_Rel k u v) : i_Rel (k + 3) u v := h
theorem i_vc0 : wpX_init (fun u => wpY_init (fun v => i_Rel 0 u v)) :=
  ⟨255, 0, 0, 0, fun _ => 0, by omega, ⟨by omega, by omega, by omega, by omega, by omega, by omega, fun i hi => absurd hi (Nat.not_lt_zero i)⟩, rfl, rfl⟩
theorem i_vc_put {k : Nat} {u : SX} {v : SY} (I : i_Rel k u v) (hk : k + 3 ≤ 1536) (v1 : Int32) (v2 : Int32) : wpX_put (fun r u' => wpY_put (fun r' v' => r' = r ∧ i_Rel (k + 3) u' v') v v1 v2) u v1 v2 := by
  obtain ⟨r, V, q, c, a, hr, I, rfl, rfl⟩ := I
  have R : i_Rel (k + 3) (nI r, lN (V % 2 ^ (8 + c)), nI c, nI q, a) (nI r, lN V, nI (8 * q + c)) := ⟨r, V, q, c, a, hr, I, rfl, rfl⟩
  obtain ⟨g1, g2, g3, g4, g5, g6, g7⟩ := id I
  by_cases hq : q = 6
  · have hs : ¬ nI (8 * q + c) < 48 := nI_nlt (b := 48) (by omega) (by omega)
    exact br_t (congrArg nI hq) (br_f hs ⟨rfl, R⟩)
  · have hq' : ¬ nI q = 6 := fun z => hq ((nI_eq (b := 6) (by omega) (by decide)).mp z)
    have hs : nI (8 * q + c) < 48 := nI_lt (b := 48) (by omega) (by decide)
    by_cases h1 : v2 < 1
    · exact br_f hq' (br_t h1 (br_t hs (br_t h1 ⟨rfl, R⟩)))
    · by_cases h2 : v2 ≤ 255
      · obtain ⟨p, hp, rfl⟩ := nI_of2 (x := v2) (M := 255) (n := 255) (by decide) (fun z => h1 (Int32.lt_trans z (by decide))) h2
        have es := bc_split hr g2 hp
        have ht := (bc_t hr g2 hp).1
        have ht1 : 1 ≤ 1 + (r - 1) * p / 2 ^ 8 := Nat.le_add_right 1 _
        generalize 1 + (r - 1) * p / 2 ^ 8 = t at es ht ht1
        refine br_f hq' (br_f h1 (br_t h2 (nm_r es ?_)))
        by_cases hb : v1 = 0
        · obtain ⟨j, hj, hj1, hj2⟩ := bc_k (r := t) (by omega) (by omega)
          refine br_t hb (bc_x73 (r := t) (t := 0) (k := j) I (by omega) (by omega) hj1 hj2 (by omega) fun q' c' a' I' e => ?_)
          refine br_t hs (br_f h1 (br_t h2 (nm_r es (br_t hb (bc_y73 (by omega) (by omega) fun j' hj1' hj2' => ?_)))))
          have ej : j' = j := Nat.le_antisymm (bc_kl hj1 hj2') (bc_kl hj1' hj2)
          subst ej
          exact ⟨rfl, _, _, q', c', a', hj1, I', rfl, by rw [e, Nat.add_zero]⟩
        · obtain ⟨j, hj, hj1, hj2⟩ := bc_k (r := r - t) (by omega) (by omega)
          have et : (nI t).toInt64 = lN t := nI_l (by omega)
          have er : nI r - nI t = nI (r - t) := pk_sub (by omega)
          refine br_f hb (nm_r (by rw [et, lN_add]) (nm_r er (bc_x73 (r := r - t) (t := t) (k := j) I (by omega) (by omega) hj1 hj2 (by omega) fun q' c' a' I' e => ?_)))
          refine br_t hs (br_f h1 (br_t h2 (nm_r es (br_f hb (nm_r (e' := lN (V + t)) (by rw [et, lN_add]) (nm_r er (bc_y73 (by omega) (by omega) fun j' hj1' hj2' => ?_)))))))
          have ej : j' = j := Nat.le_antisymm (bc_kl hj1 hj2') (bc_kl hj1' hj2)
          subst ej
          exact ⟨rfl, _, _, q', c', a', hj1, I', rfl, by rw [e]⟩
      · exact br_f hq' (br_f h1 (br_f h2 (br_t hs (br_f h1 (br_f h2 ⟨rfl, R⟩)))))
theorem i_vc_flush {k : Nat} {u : SX} {v : SY} (I : i_Rel k u v) (hk : k + 3 ≤ 1536) : wpX_flush (fun r u' => wpY_flush (fun r' v' => r' = r ∧ i_Rel (k + 3) u' v') v) u := by
  obtain ⟨r, V, q, c, a, hr, I, rfl, rfl⟩ := I
  have R : i_Rel (k + 3) (nI r, lN (V % 2 ^ (8 + c)), nI c, nI q, a) (nI r, lN V, nI (8 * q + c)) := ⟨r, V, q, c, a, hr, I, rfl, rfl⟩
  obtain ⟨g1, g2, g3, g4, g5, g6, g7⟩ := id I
  by_cases hq : q = 6
  · have hs : ¬ nI (8 * q + c) < 48 := nI_nlt (b := 48) (by omega) (by omega)
    exact br_t (congrArg nI hq) (br_f hs ⟨rfl, R⟩)
  · have hq' : ¬ nI q = 6 := fun z => hq ((nI_eq (b := 6) (by omega) (by decide)).mp z)
    have hs : nI (8 * q + c) < 48 := nI_lt (b := 48) (by omega) (by decide)
    have e8 : (8 : Int32) - nI c = nI (8 - c) := pk_sub (a := 8) (by omega)
    have ec : nI (8 * q + c) &&& 7 = nI c := by
      rw [pk_andN (by omega) 3 (by decide)]
      exact congrArg nI (by omega)
    have h8 : c + (8 - c) = 8 := by omega
    have hb : V % 2 ^ (8 + c) * 2 ^ (8 - c) < 2 ^ 16 := by
      rw [bc_low, h8]
      exact Nat.mod_lt _ (by decide)
    have el : lN (V % 2 ^ (8 + c)) <<< ((8 - nI c).toInt64 &&& 63) = lN (V % 2 ^ (8 + c) * 2 ^ (8 - c)) := by rw [e8]; exact wb_shl _ (by omega)
    have es : lN (V % 2 ^ (8 + c) * 2 ^ (8 - c)) >>> ((8 : Int32).toInt64 &&& 63) = lN (V % 2 ^ (8 + c) * 2 ^ (8 - c) / 2 ^ 8) := pf_shr (bc_amt (k := 8) (by decide)) (by omega)
    have em : lN (V % 2 ^ (8 + c) * 2 ^ (8 - c)) &&& 255 = lN (V % 2 ^ (8 + c) * 2 ^ (8 - c) % 2 ^ 8) := wb_mask (k := 8) (by omega) (by decide)
    have J := bc_full (k := 8 - c) (r' := r) I g1 g2 (Nat.le_mul_of_pos_right r (Nat.two_pow_pos _)) h8 (by omega)
    refine br_f hq' (nm_r el (nm_r (nI_1 q) ⟨vp_in_nI (by omega) (by decide), ?_⟩))
    rw [es, bc_st, nI_clamp (by omega), em, bc_low0 h8]
    refine nm_e (nm_e (br_t hs (nm_r (e' := nI (8 - c)) (by rw [ec, e8]) (nm_r (wb_shl V (show 8 - c < 64 by omega)) (nm_e ?_)))))
    have e3 : nI (8 * q + c) + nI (8 - c) = nI (8 * (q + 1)) := by
      rw [nI_add]
      exact congrArg nI (by omega)
    refine ⟨?_, r, _, q + 1, 0, _, hr, J, rfl, ?_⟩
    · rw [e3, pk_shrN (by omega) _ 3 (by decide)]
      exact congrArg nI (by omega)
    · rw [e3]; rfl
theorem i_vc_out {k : Nat} {u : SX} {v : SY} (I : i_Rel k u v) (hk : k + 3 ≤ 1536) (v1 : Int32) : wpX_out (fun r => wpY_out (fun r' => r' = r ∧ i_Rel (k + 3) u v) v v1) u v1 := by
  obtain ⟨r, V, q, c, a, hr, I, rfl, rfl⟩ := I
  have R : i_Rel (k + 3) (nI r, lN (V % 2 ^ (8 + c)), nI c, nI q, a) (nI r, lN V, nI (8 * q + c)) := ⟨r, V, q, c, a, hr, I, rfl, rfl⟩
  have hV := bc_V I
  obtain ⟨g1, g2, g3, g4, g5, g6, g7⟩ := I
  by_cases h0 : v1 < 0
  · exact br_t h0 (br_t h0 ⟨rfl, R⟩)
  · by_cases h5 : v1 ≤ 5
    · obtain ⟨i, hi, rfl⟩ := nI_of2 (x := v1) (M := 5) (n := 5) (by decide) h0 h5
      have e3 : nI (8 * q + c) >>> ((3 : Int32) &&& 31) = nI q := by
        rw [pk_shrN (by omega) _ 3 (by decide)]
        exact congrArg nI (by omega)
      by_cases hq : i < q
      · have hlt : nI i < nI q := nI_lt hq (by omega)
        refine br_f h0 (br_t h5 (br_t hlt ⟨vp_in_nI (by omega) (by decide), ?_⟩))
        refine br_f h0 (br_t h5 (br_t (by rw [e3]; exact hlt) ⟨?_, R⟩))
        have e8 : nI (8 * q + c) - 8 * nI i = nI (8 * q + c - 8 * i) := by
          have : (8 : Int32) * nI i = nI (8 * i) := pk_mul 8 i
          rw [this]
          exact pk_sub (by omega)
        have hd : V / 2 ^ (8 * q + c - 8 * i) ≤ V := Nat.div_le_self _ _
        have em : lN (V / 2 ^ (8 * q + c - 8 * i)) &&& 255 = lN (V / 2 ^ (8 * q + c - 8 * i) % 2 ^ 8) := wb_mask (k := 8) (by omega) (by decide)
        rw [e8, pf_shr (bc_amt (by omega)) hV, em, lN_i, nI_clamp (by omega), g7 i hq, bc_and]
      · have hlt : ¬ nI i < nI q := nI_nlt (by omega) (by omega)
        exact br_f h0 (br_t h5 (br_f hlt (br_f h0 (br_t h5 (br_f (by rw [e3]; exact hlt) ⟨rfl, R⟩)))))
    · exact br_f h0 (br_f h5 (br_f h0 (br_f h5 ⟨rfl, R⟩)))
end
