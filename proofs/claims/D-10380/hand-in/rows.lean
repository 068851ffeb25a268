section
/-! ===== the code in plain numbers: bits, checks, ones, the byte, the code word ===== -/
def zq_b (k i : Nat) : Nat := k / 2 ^ i % 2
/-- the exclusive or of the numbers below n whose bit is one -/
def zq_c (k : Nat) : Nat → Nat
  | 0 => 0
  | n + 1 => if zq_b k n = 0 then zq_c k n else zq_c k n ^^^ n
/-- the ones among the bits below n -/
def zq_o (k : Nat) : Nat → Nat
  | 0 => 0
  | n + 1 => zq_o k n + zq_b k n
/-- the byte in a word -/
def zq_B (k : Nat) : Nat := 0 ||| zq_b k 3 * 2 ^ 0 ||| zq_b k 5 * 2 ^ 1 ||| zq_b k 6 * 2 ^ 2 ||| zq_b k 7 * 2 ^ 3 ||| zq_b k 9 * 2 ^ 4 ||| zq_b k 10 * 2 ^ 5 ||| zq_b k 11 * 2 ^ 6 ||| zq_b k 12 * 2 ^ 7
/-- a byte spread over its places -/
def zq_S (k : Nat) : Nat := 0 ||| zq_b k 0 * 2 ^ 3 ||| zq_b k 1 * 2 ^ 5 ||| zq_b k 2 * 2 ^ 6 ||| zq_b k 3 * 2 ^ 7 ||| zq_b k 4 * 2 ^ 9 ||| zq_b k 5 * 2 ^ 10 ||| zq_b k 6 * 2 ^ 11 ||| zq_b k 7 * 2 ^ 12
/-- one check bit set -/
def zq_t (c w m : Nat) : Nat := if c &&& w = 0 then m else m ||| 2 ^ w
/-- the four check bits set -/
def zq_T (m : Nat) : Nat := zq_t (zq_c m 13) 8 (zq_t (zq_c m 13) 4 (zq_t (zq_c m 13) 2 (zq_t (zq_c m 13) 1 m)))
/-- the parity bit set -/
def zq_P (m : Nat) : Nat := if zq_o m 13 % 2 = 0 then m else m ||| 1
/-- the code word of a byte -/
def zq_E (v : Nat) : Nat := zq_P (zq_T (zq_S v))
def zq_ok (k : Nat) : Prop := zq_o k 13 % 2 = 0 ∧ zq_c k 13 = 0
def zq_bad (k : Nat) : Prop := (zq_o k 13 % 2 = 0 ∧ zq_c k 13 ≠ 0) ∨ (zq_o k 13 % 2 = 1 ∧ 12 < zq_c k 13)
/-- the wrong bit of a sound word -/
def zq_g (k : Nat) : Nat := if zq_o k 13 % 2 = 0 then 13 else zq_c k 13
/-- a sound word mended -/
def zq_m (k : Nat) : Nat := if zq_o k 13 % 2 = 0 then k else k ^^^ 2 ^ zq_c k 13

theorem zq_b2 (k i : Nat) : zq_b k i < 2 := Nat.mod_lt _ (by decide)
theorem zq_c16 (k : Nat) : ∀ n, n ≤ 16 → zq_c k n < 2 ^ 4
  | 0, _ => (by decide : 0 < 2 ^ 4)
  | n + 1, h => by
    have ih := zq_c16 k n (by omega)
    rw [zq_c]
    split
    · exact ih
    · exact Nat.xor_lt_two_pow ih (by omega)
theorem zq_cl (k : Nat) : zq_c k 13 < 16 := zq_c16 k 13 (by decide)
theorem zq_c1 (k : Nat) : zq_c k 1 = 0 := by
  show (if zq_b k 0 = 0 then 0 else 0 ^^^ 0) = 0
  split <;> rfl
theorem zq_on (k : Nat) : ∀ n, zq_o k n ≤ n
  | 0 => Nat.le_refl 0
  | n + 1 => by
    have ih := zq_on k n
    have hb := zq_b2 k n
    rw [zq_o]
    omega
theorem zq_ol (k : Nat) : zq_o k 13 ≤ 13 := zq_on k 13
/-- one bit turned -/
theorem zq_bx (k a n : Nat) : zq_b (k ^^^ 2 ^ a) n = if a = n then 1 - zq_b k n else zq_b k n := by
  unfold zq_b
  rw [← Nat.toNat_testBit, ← Nat.toNat_testBit, Nat.testBit_xor, Nat.testBit_two_pow]
  by_cases h : a = n
  · rw [if_pos h, decide_eq_true h]
    cases k.testBit n <;> rfl
  · rw [if_neg h, decide_eq_false h]
    cases k.testBit n <;> rfl
theorem zq_xrc (a b c : Nat) : a ^^^ b ^^^ c = a ^^^ c ^^^ b := by
  rw [Nat.xor_assoc, Nat.xor_comm b c, ← Nat.xor_assoc]
theorem zq_xx (a b : Nat) : a ^^^ b ^^^ b = a := by
  rw [Nat.xor_assoc, Nat.xor_self, Nat.xor_zero]
theorem zq_cx (k a : Nat) : ∀ n, zq_c (k ^^^ 2 ^ a) n = if a < n then zq_c k n ^^^ a else zq_c k n
  | 0 => by rw [if_neg (by omega)]; rfl
  | n + 1 => by
    have ih := zq_cx k a n
    have hb := zq_b2 k n
    have hx := zq_bx k a n
    rw [zq_c, zq_c, ih, hx]
    by_cases h : a = n
    · subst h
      rw [if_pos rfl, if_neg (Nat.lt_irrefl a), if_pos (Nat.lt_succ_self a)]
      by_cases g : zq_b k a = 0
      · rw [if_pos g, if_neg (by omega)]
      · rw [if_neg g, if_pos (by omega), zq_xx]
    · rw [if_neg h]
      by_cases l : a < n
      · rw [if_pos l, if_pos (show a < n + 1 by omega)]
        by_cases g : zq_b k n = 0
        · rw [if_pos g, if_pos g]
        · rw [if_neg g, if_neg g, zq_xrc]
      · rw [if_neg l, if_neg (show ¬ a < n + 1 by omega)]
theorem zq_ox (k a : Nat) : ∀ n, zq_o (k ^^^ 2 ^ a) n % 2 = if a < n then (zq_o k n + 1) % 2 else zq_o k n % 2
  | 0 => by rw [if_neg (by omega)]; rfl
  | n + 1 => by
    have ih := zq_ox k a n
    have hb := zq_b2 k n
    have hx := zq_bx k a n
    rw [zq_o, zq_o, hx]
    by_cases h : a = n
    · subst h
      rw [if_neg (Nat.lt_irrefl a)] at ih
      rw [if_pos rfl, if_pos (Nat.lt_succ_self a)]
      omega
    · rw [if_neg h]
      by_cases l : a < n
      · rw [if_pos l] at ih
        rw [if_pos (show a < n + 1 by omega)]
        omega
      · rw [if_neg l] at ih
        rw [if_neg (show ¬ a < n + 1 by omega)]
        omega
theorem zq_cf {a : Nat} (k : Nat) (h : a < 13) : zq_c (k ^^^ 2 ^ a) 13 = zq_c k 13 ^^^ a := by
  rw [zq_cx, if_pos h]
theorem zq_of {a : Nat} (k : Nat) (h : a < 13) : zq_o (k ^^^ 2 ^ a) 13 % 2 = (zq_o k 13 + 1) % 2 := by
  rw [zq_ox, if_pos h]
theorem zq_xl {k a : Nat} (hk : k < 8192) (ha : a < 13) : k ^^^ 2 ^ a < 8192 := by
  have h : 2 ^ a < 2 ^ 13 := Nat.pow_lt_pow_right (by decide) ha
  exact Nat.xor_lt_two_pow (n := 13) hk h
/-! sound words -/
theorem zq_okb {k : Nat} (h : zq_ok k) : ¬ zq_bad k := by
  unfold zq_ok at h
  unfold zq_bad
  omega
theorem zq_okm {k : Nat} (h : zq_ok k) : zq_m k = k := by
  unfold zq_m
  rw [if_pos h.1]
theorem zq_okg {k : Nat} (h : zq_ok k) : zq_g k = 13 := by
  unfold zq_g
  rw [if_pos h.1]
theorem zq_gl {k : Nat} (h : ¬ zq_bad k) : zq_g k ≤ 13 := by
  unfold zq_bad at h
  unfold zq_g
  split <;> omega
theorem zq_ml {k : Nat} (hk : k < 8192) (h : ¬ zq_bad k) : zq_m k < 8192 := by
  unfold zq_bad at h
  unfold zq_m
  split
  · exact hk
  · exact zq_xl hk (by omega)
theorem zq_mok {k : Nat} (h : ¬ zq_bad k) : zq_ok (zq_m k) := by
  unfold zq_bad at h
  unfold zq_m
  split
  · rename_i g
    exact ⟨g, by omega⟩
  · rename_i g
    have hc : zq_c k 13 < 13 := by omega
    refine ⟨?_, ?_⟩
    · rw [zq_of k hc]
      omega
    · rw [zq_cf k hc, Nat.xor_self]
/-- one wrong bit is found and mended -/
theorem zq_1b {e a : Nat} (h : zq_ok e) (ha : a < 13) : ¬ zq_bad (e ^^^ 2 ^ a) := by
  unfold zq_ok at h
  unfold zq_bad
  rw [zq_of e ha, zq_cf e ha, h.2, Nat.zero_xor]
  omega
theorem zq_1m {e a : Nat} (h : zq_ok e) (ha : a < 13) : zq_m (e ^^^ 2 ^ a) = e := by
  unfold zq_ok at h
  unfold zq_m
  rw [zq_of e ha, zq_cf e ha, h.2, Nat.zero_xor, if_neg (by omega), zq_xx]
theorem zq_ne {a b : Nat} (h : a ≠ b) : a ^^^ b ≠ 0 := fun z => h (by
  have e : a ^^^ b ^^^ b = 0 ^^^ b := by rw [z]
  rw [zq_xx, Nat.zero_xor] at e
  exact e)
/-- two wrong bits are seen -/
theorem zq_2b {e a b : Nat} (h : zq_ok e) (ha : a < 13) (hb : b < 13) (n : a ≠ b) : zq_bad (e ^^^ 2 ^ a ^^^ 2 ^ b) := by
  unfold zq_ok at h
  refine Or.inl ⟨?_, ?_⟩
  · rw [zq_of _ hb]
    have := zq_of e ha
    omega
  · rw [zq_cf _ hb, zq_cf e ha, h.2, Nat.zero_xor]
    exact zq_ne n
theorem zq_bp {k i j : Nat} (h : j < 8) : zq_b k i * 2 ^ j < 2 ^ 8 := by
  have h1 := zq_b2 k i
  have h2 : 2 ^ j ≤ 2 ^ 7 := Nat.pow_le_pow_right (by decide) (by omega)
  have h3 : zq_b k i * 2 ^ j ≤ 1 * 2 ^ 7 := Nat.mul_le_mul (by omega) h2
  omega
theorem zq_Bl (k : Nat) : zq_B k < 256 := by
  unfold zq_B
  exact Nat.or_lt_two_pow (n := 8) (Nat.or_lt_two_pow (Nat.or_lt_two_pow (Nat.or_lt_two_pow (Nat.or_lt_two_pow (Nat.or_lt_two_pow (Nat.or_lt_two_pow (Nat.or_lt_two_pow (by decide) (zq_bp (by decide))) (zq_bp (by decide))) (zq_bp (by decide))) (zq_bp (by decide))) (zq_bp (by decide))) (zq_bp (by decide))) (zq_bp (by decide))) (zq_bp (by decide))
/-- the code, all 256 of its words -/
theorem zq_all : ∀ v, v < 256 → zq_S v < 8192 ∧ zq_T (zq_S v) < 8192 ∧ zq_E v < 8192 ∧ zq_o (zq_E v) 13 % 2 = 0 ∧ zq_c (zq_E v) 13 = 0 ∧ zq_B (zq_E v) = v := by decide +kernel
theorem zq_El {v : Nat} (h : v < 256) : zq_E v < 8192 := (zq_all v h).2.2.1
theorem zq_Eok {v : Nat} (h : v < 256) : zq_ok (zq_E v) := ⟨(zq_all v h).2.2.2.1, (zq_all v h).2.2.2.2.1⟩
theorem zq_EB {v : Nat} (h : v < 256) : zq_B (zq_E v) = v := (zq_all v h).2.2.2.2.2
end
section
/-! ===== ints as numbers (the first three began as rows of BITS.to-paste) ===== -/
theorem zq_sl : ∀ n, n < 32 → ((nI n &&& 31).toBitVec.smod 32).toNat = n := by decide +kernel
theorem zq_xor (a b : Nat) : nI a ^^^ nI b = nI (a ^^^ b) := by
  apply Int32.toBitVec_inj.1
  show BitVec.ofNat 32 a ^^^ BitVec.ofNat 32 b = BitVec.ofNat 32 (a ^^^ b)
  apply BitVec.eq_of_getLsbD_eq
  intro i hi
  simp [hi]
theorem zq_and (a b : Nat) : nI a &&& nI b = nI (a &&& b) := by
  apply Int32.toBitVec_inj.1
  show BitVec.ofNat 32 a &&& BitVec.ofNat 32 b = BitVec.ofNat 32 (a &&& b)
  apply BitVec.eq_of_getLsbD_eq
  intro i hi
  simp [hi]
theorem zq_or (a b : Nat) : nI a ||| nI b = nI (a ||| b) := by
  apply Int32.toBitVec_inj.1
  show BitVec.ofNat 32 a ||| BitVec.ofNat 32 b = BitVec.ofNat 32 (a ||| b)
  apply BitVec.eq_of_getLsbD_eq
  intro i hi
  simp [hi]
theorem zq_bit {k i : Nat} (hk : k < 8192) (hi : i < 32) : nI k >>> (nI i &&& 31) &&& 1 = nI (zq_b k i) := by
  have hd : k / 2 ^ i ≤ k := Nat.div_le_self _ _
  have e1 := pk_shrN (n := k) (by omega) (nI i &&& 31) i (zq_sl i hi)
  have e2 := pk_andN (n := k / 2 ^ i) (by omega) (m := 1) 1 (by decide)
  rw [e1]
  exact e2
theorem zq_z {k i : Nat} (hk : k < 8192) (hi : i < 32) : nI k >>> (nI i &&& 31) &&& 1 = 0 ↔ zq_b k i = 0 := by
  have hb := zq_b2 k i
  rw [zq_bit hk hi, ← nI_0, nI_eq (by omega) (by omega)]
theorem zq_pw {b j : Nat} (hb : b < 2) (hj : j < 13) : b * 2 ^ j < 2 ^ 32 := by
  have h2 : 2 ^ j ≤ 2 ^ 12 := Nat.pow_le_pow_right (by decide) (by omega)
  have h3 : b * 2 ^ j ≤ 1 * 2 ^ 12 := Nat.mul_le_mul (by omega) h2
  omega
theorem zq_shl {b j : Nat} (hb : b < 2) (hj : j < 13) : nI b <<< (nI j &&& 31) = nI (b * 2 ^ j) :=
  pk_shlN (nI j &&& 31) j (zq_sl j (by omega)) (zq_pw hb hj)
theorem zq_sb {k i j : Nat} (m : Nat) (hk : k < 8192) (hi : i < 32) (hj : j < 13) : nI m ||| ((nI k >>> (nI i &&& 31) &&& 1) <<< (nI j &&& 31)) = nI (m ||| zq_b k i * 2 ^ j) := by
  rw [zq_bit hk hi, zq_shl (zq_b2 k i) hj, zq_or]
theorem zq_one {j : Nat} (hj : j < 13) : (1 : Int32) <<< (nI j &&& 31) = nI (2 ^ j) := by
  have e := zq_shl (b := 1) (by decide) hj
  rw [Nat.one_mul] at e
  exact e
theorem zq_x1 {j : Nat} (k : Nat) (hj : j < 13) : nI k ^^^ ((1 : Int32) <<< (nI j &&& 31)) = nI (k ^^^ 2 ^ j) := by
  rw [zq_one hj, zq_xor]
theorem zq_s16 {k : Nat} (hk : k < 8192) : (nI k).toInt16.toInt32 = nI k := by
  apply Int32.toInt_inj.mp
  rw [Int16.toInt_toInt32, Int32.toInt_toInt16, nI_toInt (by omega)]
  exact Int.bmod_eq_of_le (by omega) (by omega)
theorem zq_n2 {n : Nat} (h : n < 2 ^ 31) : ¬ nI n = -2 := fun e => nI_pos h (by rw [e]; decide)
theorem zq_n1 {o : Nat} (h : o ≤ 13) : nI o &&& 1 = 0 ↔ o % 2 = 0 := by
  have e2 := pk_andN (n := o) (by omega) (m := 1) 1 (by decide)
  rw [e2, ← nI_0, nI_eq (by omega) (by decide)]
/-! ===== the helpers, walked ===== -/
theorem zq_isW {post : Int32 → Prop} {f : Int32} {a : Nat → Int32} {w : Nat} (hw : w < 16) (hp : post 1) : wpX_isWord post (f, a) (nI w) :=
  br_f (nI_pos (by omega)) (br_f (nI_nlt (a := 15) (b := w) (by omega) (by decide)) hp)
theorem zq_chk {post : Int32 → Prop} {f : Int32} {a : Nat → Int32} {k : Nat} (hk : k < 8192) (hp : post (nI (zq_c k 13))) : wpX_checksOf post (f, a) (nI k) := by
  refine pk_loop (fun n i s => wX_checksOf_4 post (nI k) f a n s (nI i)) (fun i s => s = nI (zq_c k i)) 13 1 0 (by omega) (by show (0 : Int32) = nI (zq_c k 1); rw [zq_c1]; rfl) ?_ ?_
  · intro n s h
    subst h
    exact pk_le 13 13 (fun _ => hp) (fun z => absurd z (by omega))
  · intro n i s hi h hw
    subst h
    refine pk_le 13 i (fun z => absurd z (by omega)) (fun _ => br_c (fun g => nm_r (nI_1 i) (hw _ ?_)) (fun g => nm_r (zq_xor _ _) (nm_r (nI_1 i) (hw _ ?_))))
    · rw [zq_c, if_pos ((zq_z hk (by omega)).mp g)]
    · rw [zq_c, if_neg (fun z => g ((zq_z hk (by omega)).mpr z))]
theorem zq_ones {post : Int32 → Prop} {f : Int32} {a : Nat → Int32} {k : Nat} (hk : k < 8192) (hp : post (nI (zq_o k 13))) : wpX_onesIn post (f, a) (nI k) := by
  refine pk_loop (fun n i s => wX_onesIn_4 post (nI k) f a n s (nI i)) (fun i s => s = nI (zq_o k i)) 13 0 0 (by omega) rfl ?_ ?_
  · intro n s h
    subst h
    exact pk_le 13 13 (fun _ => hp) (fun z => absurd z (by omega))
  · intro n i s hi h hw
    subst h
    exact pk_le 13 i (fun z => absurd z (by omega)) (fun _ => nm_r (by rw [zq_bit hk (by omega), nI_add]; rfl) (nm_r (nI_1 i) (hw _ rfl)))
theorem zq_odd {post : Int32 → Prop} {f : Int32} {a : Nat → Int32} {k : Nat} (hk : k < 8192) (h0 : zq_o k 13 % 2 = 0 → post 0) (h1 : zq_o k 13 % 2 = 1 → post 1) : wpX_isOdd post (f, a) (nI k) := by
  unfold wpX_isOdd
  dsimp only
  have e := zq_n1 (zq_ol k)
  refine zq_ones hk (br_c (fun g => h0 (e.mp g)) (fun g => h1 ?_))
  have g' : ¬ zq_o k 13 % 2 = 0 := fun z => g (e.mpr z)
  omega
theorem zq_wb {post : Int32 → Prop} {f : Int32} {a : Nat → Int32} {k : Nat} (hk : k < 8192) (hb : zq_bad k → post (-2)) (hg : ¬ zq_bad k → post (nI (zq_g k))) : wpX_wrongBit post (f, a) (nI k) := by
  unfold wpX_wrongBit
  dsimp only
  have hc := zq_cl k
  refine zq_chk hk (zq_odd hk (fun g => br_t rfl ?_) (fun g => br_f (by decide) ?_))
  · refine pk_eq (zq_c k 13) 0 (fun e => ?_) (fun e => hb (Or.inl ⟨g, e⟩))
    have h := hg (zq_okb ⟨g, e⟩)
    rw [zq_okg ⟨g, e⟩] at h
    exact h
  · refine pk_lt 12 (zq_c k 13) (fun e => hb (Or.inr ⟨g, e⟩)) (fun e => ?_)
    have h := hg (by unfold zq_bad; omega)
    unfold zq_g at h
    rw [if_neg (by omega)] at h
    exact h
theorem zq_men {post : Int32 → Prop} {f : Int32} {a : Nat → Int32} {k : Nat} (h : ¬ zq_bad k) (hp : post (nI (zq_m k))) : wpX_mended post (f, a) (nI k) (nI (zq_g k)) := by
  unfold zq_bad at h
  unfold zq_m at hp
  unfold zq_g
  by_cases g : zq_o k 13 % 2 = 0
  · rw [if_pos g] at hp ⊢
    exact br_t rfl hp
  · rw [if_neg g] at hp ⊢
    refine pk_eq (zq_c k 13) 13 (fun e => absurd e (by omega)) (fun e => ?_)
    rw [zq_x1 k (by omega)]
    exact hp
/-! the byte out of a word: ten turns -/
theorem zq_y1 {post : Int32 → Prop} {f : Int32} {a : Nat → Int32} {k n m : Nat} (i j : Nat) (hk : k < 8192) (hi : i < 13) (hj : j < 13) (hz : ¬ (nI i &&& (nI i - 1)) = 0) (h : wX_byteIn_7 post (nI k) f a n (nI (m ||| zq_b k i * 2 ^ j)) (nI (j + 1)) (nI (i + 1))) : wX_byteIn_7 post (nI k) f a (n + 1) (nI m) (nI j) (nI i) :=
  pk_le 13 i (fun z => absurd z (by omega)) (fun _ => br_f hz (nm_r (zq_sb m hk (by omega) hj) (nm_r (nI_1 j) (nm_r (nI_1 i) h))))
theorem zq_y0 {post : Int32 → Prop} {f x v j : Int32} {a : Nat → Int32} {n : Nat} (i : Nat) (hi : i < 13) (hz : (nI i &&& (nI i - 1)) = 0) (h : wX_byteIn_7 post x f a n v j (nI (i + 1))) : wX_byteIn_7 post x f a (n + 1) v j (nI i) :=
  pk_le 13 i (fun z => absurd z (by omega)) (fun _ => br_t hz (nm_r (nI_1 i) h))
theorem zq_byt {post : Int32 → Prop} {f : Int32} {a : Nat → Int32} {k : Nat} (hk : k < 8192) (hp : post (nI (zq_B k))) : wpX_byteIn post (f, a) (nI k) := by
  refine ⟨11, ?_⟩
  refine zq_y1 (m := 0) 3 0 hk (by decide) (by decide) (by decide) ?_
  refine zq_y0 4 (by decide) (by decide) ?_
  refine zq_y1 5 1 hk (by decide) (by decide) (by decide) ?_
  refine zq_y1 6 2 hk (by decide) (by decide) (by decide) ?_
  refine zq_y1 7 3 hk (by decide) (by decide) (by decide) ?_
  refine zq_y0 8 (by decide) (by decide) ?_
  refine zq_y1 9 4 hk (by decide) (by decide) (by decide) ?_
  refine zq_y1 10 5 hk (by decide) (by decide) (by decide) ?_
  refine zq_y1 11 6 hk (by decide) (by decide) (by decide) ?_
  refine zq_y1 12 7 hk (by decide) (by decide) (by decide) ?_
  exact pk_le 13 13 (fun _ => hp) (fun z => absurd z (by omega))
/-! a byte spread: ten turns -/
theorem zq_p1 {post : Int32 → Prop} {f : Int32} {a : Nat → Int32} {k n m : Nat} (i j : Nat) (hk : k < 8192) (hi : i < 13) (hj : j < 13) (hz : ¬ (nI i &&& (nI i - 1)) = 0) (h : wX_spread_7 post (nI k) f a n (nI (m ||| zq_b k j * 2 ^ i)) (nI (j + 1)) (nI (i + 1))) : wX_spread_7 post (nI k) f a (n + 1) (nI m) (nI j) (nI i) :=
  pk_le 13 i (fun z => absurd z (by omega)) (fun _ => br_f hz (nm_r (zq_sb m hk (by omega) hi) (nm_r (nI_1 j) (nm_r (nI_1 i) h))))
theorem zq_p0 {post : Int32 → Prop} {f x v j : Int32} {a : Nat → Int32} {n : Nat} (i : Nat) (hi : i < 13) (hz : (nI i &&& (nI i - 1)) = 0) (h : wX_spread_7 post x f a n v j (nI (i + 1))) : wX_spread_7 post x f a (n + 1) v j (nI i) :=
  pk_le 13 i (fun z => absurd z (by omega)) (fun _ => br_t hz (nm_r (nI_1 i) h))
theorem zq_spr {post : Int32 → Prop} {f : Int32} {a : Nat → Int32} {k : Nat} (hk : k < 8192) (hp : post (nI (zq_S k))) : wpX_spread post (f, a) (nI k) := by
  refine ⟨11, ?_⟩
  refine zq_p1 (m := 0) 3 0 hk (by decide) (by decide) (by decide) ?_
  refine zq_p0 4 (by decide) (by decide) ?_
  refine zq_p1 5 1 hk (by decide) (by decide) (by decide) ?_
  refine zq_p1 6 2 hk (by decide) (by decide) (by decide) ?_
  refine zq_p1 7 3 hk (by decide) (by decide) (by decide) ?_
  refine zq_p0 8 (by decide) (by decide) ?_
  refine zq_p1 9 4 hk (by decide) (by decide) (by decide) ?_
  refine zq_p1 10 5 hk (by decide) (by decide) (by decide) ?_
  refine zq_p1 11 6 hk (by decide) (by decide) (by decide) ?_
  refine zq_p1 12 7 hk (by decide) (by decide) (by decide) ?_
  exact pk_le 13 13 (fun _ => hp) (fun z => absurd z (by omega))
/-! the code word: four check bits, then parity -/
theorem zq_e1 {post : Int32 → Prop} {f : Int32} {a : Nat → Int32} {c n m : Nat} (w : Nat) (hc : c < 16) (hw : w ≤ 8) (h : wX_encoded_15 post (nI c) f a n (nI (zq_t c w m)) (nI (w * 2))) : wX_encoded_15 post (nI c) f a (n + 1) (nI m) (nI w) := by
  have hl : c &&& w ≤ w := Nat.and_le_right
  have e2 : nI w * 2 = nI (w * 2) := pk_mul w 2
  refine pk_lt 8 w (fun z => absurd z (by omega)) (fun _ => ?_)
  unfold zq_t at h
  refine pk_eq (c &&& w) 0 (fun g => ?_) (fun g => ?_) (zq_and c w)
  · rw [if_pos g] at h
    exact nm_r e2 h
  · rw [if_neg g] at h
    exact nm_r (by rw [zq_one (by omega), zq_or]) (nm_r e2 h)
theorem zq_enc {post : Int32 → Prop} {f : Int32} {a : Nat → Int32} {v : Nat} (hv : v < 256) (hp : post (nI (zq_E v))) : wpX_encoded post (f, a) (nI v) := by
  unfold wpX_encoded
  dsimp only
  obtain ⟨hS, hT, _⟩ := zq_all v hv
  have hc := zq_cl (zq_S v)
  refine zq_spr (by omega) (zq_chk hS ⟨5, ?_⟩)
  refine zq_e1 1 hc (by decide) ?_
  refine zq_e1 2 hc (by decide) ?_
  refine zq_e1 4 hc (by decide) ?_
  refine zq_e1 8 hc (by decide) ?_
  refine pk_lt 8 16 (fun _ => ?_) (fun z => absurd z (by omega))
  unfold zq_E zq_P at hp
  refine zq_odd (k := zq_T (zq_S v)) hT (fun g => br_t rfl ?_) (fun g => br_f (by decide) ?_)
  · rw [if_pos g] at hp
    exact hp
  · rw [if_neg (by omega)] at hp
    exact sb_at (zq_or (zq_T (zq_S v)) 1) hp
end
section
/-! ===== the calls, one lemma each ===== -/
/-- every word is a number of 13 bits -/
def zq_K (a : Nat → Int32) : Prop := ∀ j, j < 16 → ∃ k : Nat, k < 8192 ∧ a j = nI k
theorem zq_K0 : zq_K (fun _ => 0) := fun _ _ => ⟨0, by decide, rfl⟩
theorem zq_Ku {a : Nat → Int32} {w k : Nat} (h : zq_K a) (hk : k < 8192) : zq_K (upd a w (nI k)) := by
  intro j hj
  by_cases e : j = w
  · rw [e, pk_us]
    exact ⟨k, hk, rfl⟩
  · rw [pk_un e]
    exact h j hj
theorem zq_read {post : Int32 → Prop} {f : Int32} {a : Nat → Int32} {w k : Nat} (hw : w < 16) (hk : k < 8192) (ha : a w = nI k) (hb : zq_bad k → post (-2)) (hg : ¬ zq_bad k → post (nI (zq_B (zq_m k)))) : wpX_read post (f, a) (nI w) := by
  unfold wpX_read
  dsimp only
  rw [nI_clamp (show w < 2 ^ 31 by omega), ha]
  refine zq_isW hw (br_f (by decide) ⟨pk_in w 16 hw, zq_wb hk (fun z => br_t rfl (hb z)) (fun z => ?_)⟩)
  have hl := zq_gl z
  exact br_f (zq_n2 (by omega)) ⟨pk_in w 16 hw, zq_men z (zq_byt (zq_ml hk z) (hg z))⟩
theorem zq_rep {post : Int32 → St1 → Prop} {f : Int32} {a : Nat → Int32} {w k : Nat} (hw : w < 16) (hk : k < 8192) (ha : a w = nI k) (hb : zq_bad k → post (-2) (f, a)) (hg : ¬ zq_bad k → post (nI (zq_g k)) (f, upd a w (nI (zq_m k)))) : wpX_repair post (f, a) (nI w) := by
  unfold wpX_repair
  dsimp only
  rw [nI_clamp (show w < 2 ^ 31 by omega), ha]
  refine zq_isW hw (br_f (by decide) ⟨pk_in w 16 hw, zq_wb hk (fun z => br_t (by decide) (hb z)) (fun z => ?_)⟩)
  have hl := zq_gl z
  refine br_f (nI_pos (by omega)) ⟨pk_in w 16 hw, zq_men z ⟨pk_in w 16 hw, nm_r ?_ (hg z)⟩⟩
  rw [zq_s16 (zq_ml hk z)]
theorem zq_flip {post : Int32 → St1 → Prop} {f : Int32} {a : Nat → Int32} {w k b : Nat} (hw : w < 16) (hk : k < 8192) (hb : b < 13) (ha : a w = nI k) (hp : post (nI (k ^^^ 2 ^ b)) (f, upd a w (nI (k ^^^ 2 ^ b)))) : wpX_flip post (f, a) (nI w) (nI b) := by
  unfold wpX_flip
  dsimp only
  rw [nI_clamp (show w < 2 ^ 31 by omega), ha, zq_x1 k hb, zq_s16 (zq_xl hk hb)]
  refine zq_isW hw (br_f (by decide) (br_f (nI_pos (by omega)) (br_t (nI_le (b := 12) (by omega) (by decide)) ⟨pk_in w 16 hw, pk_in w 16 hw, nm_e ⟨pk_in w 16 hw, ?_⟩⟩)))
  rw [pk_us]
  exact hp
theorem zq_wri {post : Int32 → St1 → Prop} {f : Int32} {a : Nat → Int32} {w v : Nat} (hw : w < 16) (hv : v < 256) (hp : post (nI (zq_E v)) (f, upd a w (nI (zq_E v)))) : wpX_write post (f, a) (nI w) (nI v) := by
  unfold wpX_write
  dsimp only
  rw [nI_clamp (show w < 2 ^ 31 by omega)]
  refine zq_isW hw (br_f (by decide) (br_f (nI_pos (by omega)) (br_t (nI_le (b := 255) (by omega) (by decide)) (zq_enc hv ⟨pk_in w 16 hw, nm_r (by rw [zq_s16 (zq_El hv)]) ⟨pk_in w 16 hw, ?_⟩⟩))))
  rw [pk_us]
  exact hp
theorem zq_raw {post : Int32 → Prop} {f : Int32} {a : Nat → Int32} {w : Nat} (hw : w < 16) (hp : post (a w)) : wpX_raw post (f, a) (nI w) := by
  unfold wpX_raw
  dsimp only
  rw [nI_clamp (show w < 2 ^ 31 by omega)]
  exact zq_isW hw (br_f (by decide) ⟨pk_in w 16 hw, hp⟩)
theorem zq_mix {post : Int32 → St1 → Prop} {f : Int32} {a : Nat → Int32} {w v : Nat} (hw : w < 16) (hv : v < 16) (hK : zq_K a) (hp : ∀ r a', zq_K a' → post r (f, a')) : wpX_mix post (f, a) (nI w) (nI v) := by
  unfold wpX_mix
  dsimp only
  rw [nI_clamp (show v < 2 ^ 31 by omega)]
  obtain ⟨k, hk, ek⟩ := hK w hw
  obtain ⟨l, hl, el⟩ := hK v hv
  have hB := zq_Bl (zq_m k)
  have hC := zq_Bl (zq_m l)
  refine zq_isW hw (br_f (by decide) (zq_isW hv (br_f (by decide) ?_)))
  refine zq_read hw hk ek (fun _ => zq_read hv hl el (fun _ => br_t rfl (hp _ _ hK)) (fun _ => br_t rfl (hp _ _ hK))) (fun _ => zq_read hv hl el (fun _ => br_f (zq_n2 (by omega)) (br_t rfl (hp _ _ hK))) (fun _ => ?_))
  have hx : zq_B (zq_m k) ^^^ zq_B (zq_m l) < 256 := Nat.xor_lt_two_pow (n := 8) hB hC
  refine br_f (zq_n2 (by omega)) (br_f (zq_n2 (by omega)) (nm_r (zq_xor _ _) (zq_enc hx ⟨pk_in v 16 hv, nm_r (by rw [zq_s16 (zq_El hx)]) (hp _ _ (zq_Ku hK (zq_El hx)))⟩)))
theorem zq_scr {post : Int32 → St1 → Prop} {a : Nat → Int32} {p c : Nat} (hP : p < 16) (hc : c ≤ 32) (hK : zq_K a) (hp : ∀ (r : Int32) (q : Nat) (a' : Nat → Int32), q < 16 → zq_K a' → post r (nI q, a')) : wpX_scrub post (nI p, a) (nI c) := by
  refine br_t (nI_pos' (by omega)) (br_t (nI_le (b := 32) hc (by decide)) ?_)
  refine pk_loop (fun n i (s : Int32 × Int32 × (Nat → Int32)) => wX_scrub_26 post (nI c) n s.1 (nI i) s.2.1 s.2.2) (fun _ s => (∃ q : Nat, q < 16 ∧ s.2.1 = nI q) ∧ zq_K s.2.2) c 0 (0, nI p, a) (by omega) ⟨⟨p, hP, rfl⟩, hK⟩ ?_ ?_
  · rintro n ⟨r, f, b⟩ ⟨⟨q, hq, e⟩, hb⟩
    dsimp only at e hb ⊢
    subst e
    exact pk_le c c (fun _ => hp r q b hq hb) (fun z => absurd z (by omega))
  · rintro n i ⟨r, f, b⟩ hi ⟨⟨q, hq, e⟩, hb⟩ hn
    dsimp only at e hb ⊢
    subst e
    obtain ⟨k, hk, ek⟩ := hb q hq
    have hN : ∀ (r' : Int32) (b' : Nat → Int32), zq_K b' → wX_scrub_57 post (wX_scrub_26 post (nI c) n) (nI c) r' (nI i) (nI q) b' := by
      intro r' b' hb'
      have e15 := pk_andN (n := q + 1) (by omega) (m := 15) 4 (by decide)
      refine nm_r (by rw [nI_1, e15]) (nm_r (nI_1 i) (hn (r', nI ((q + 1) % 2 ^ 4), b') ⟨⟨(q + 1) % 2 ^ 4, Nat.mod_lt _ (by decide), rfl⟩, hb'⟩))
    refine pk_le c i (fun z => absurd z (by omega)) (fun _ => zq_rep hq hk ek (fun _ => br_t (by decide) (hN _ _ hb)) (fun z => ?_))
    have hl := zq_gl z
    have hU := zq_Ku (w := q) hb (zq_ml hk z)
    exact br_f (nI_pos (by omega)) (br_c (fun _ => hN _ _ hU) (fun _ => nm_e (hN _ _ hU)))
end
section
/-! ===== the law ===== -/
/-- a code word with at most one wrong bit reads as its byte -/
theorem zq_rd0 {post : Int32 → Prop} {f : Int32} {a : Nat → Int32} {w v : Nat} (hw : w < 16) (hv : v < 256) (ha : a w = nI (zq_E v)) (hp : post (nI v)) : wpX_read post (f, a) (nI w) := by
  refine zq_read hw (zq_El hv) ha (fun z => absurd z (zq_okb (zq_Eok hv))) (fun _ => ?_)
  rw [zq_okm (zq_Eok hv), zq_EB hv]
  exact hp
theorem zq_rd1 {post : Int32 → Prop} {f : Int32} {a : Nat → Int32} {w v b : Nat} (hw : w < 16) (hv : v < 256) (hb : b < 13) (ha : a w = nI (zq_E v ^^^ 2 ^ b)) (hp : post (nI v)) : wpX_read post (f, a) (nI w) := by
  refine zq_read hw (zq_xl (zq_El hv) hb) ha (fun z => absurd z (zq_1b (zq_Eok hv) hb)) (fun _ => ?_)
  rw [zq_1m (zq_Eok hv) hb, zq_EB hv]
  exact hp
theorem zq_m103 {post : Int32 → St1 → Prop} {f z : Int32} {a : Nat → Int32} {w v c k b : Nat} (hw : w < 16) (hv : v < 256) (hc : c < 13) (hb : b < 13) (hk : k < 8192) (ha : a w = nI k) (e : k ^^^ 2 ^ c = zq_E v ^^^ 2 ^ b) (hK : zq_K a) (hp : ∀ a', zq_K a' → post 1 (f, a')) : wL_marked_103 post (nI w) (nI v) (nI c) z z f a := by
  have hl := zq_xl (zq_El hv) hb
  refine br_t rfl (zq_flip hw hk hc ha ?_)
  rw [e]
  exact br_f (nI_pos (by omega)) (zq_rd1 hw hv hb pk_us (br_t rfl (hp _ (zq_Ku hK hl))))
theorem zq_mark {post : Int32 → St1 → Prop} {f : Int32} {a : Nat → Int32} {w v c b : Nat} (hw : w < 16) (hv : v < 256) (hc : c < 13) (hb : b < 13) (hK : zq_K a) (hp : ∀ a', zq_K a' → post 1 (f, a')) : wpL_marked post (f, a) (nI w) (nI v) (nI c) (nI b) := by
  unfold wpL_marked
  dsimp only
  have hE := zq_El hv
  have hok := zq_Eok hv
  have h1 := zq_xl hE hc
  have h2 := zq_xl h1 hb
  have K1 := zq_Ku (w := w) hK hE
  have K2 := zq_Ku (w := w) K1 h1
  have K3 := zq_Ku (w := w) K2 h2
  refine zq_wri hw hv (zq_rd0 hw hv pk_us (br_t rfl (zq_raw hw (br_t pk_us (zq_flip hw hE hc pk_us (br_t (zq_x1 _ hc).symm (zq_rd1 hw hv hc pk_us (br_t rfl (zq_flip hw h1 hb pk_us ?_)))))))))
  by_cases e : c = b
  · subst e
    rw [zq_xx] at K3 ⊢
    refine zq_rd0 hw hv pk_us (br_t rfl (br_t rfl (zq_rep hw hE pk_us (fun z => absurd z (zq_okb hok)) (fun _ => ?_))))
    rw [zq_okg hok, zq_okm hok]
    exact br_t rfl (zq_m103 hw hv hc hc hE pk_us rfl (zq_Ku K3 hE) hp)
  · have hB := zq_2b hok hc hb e
    have en : ¬ nI c = nI b := fun z => e ((nI_eq (by omega) (by omega)).mp z)
    refine zq_read hw h2 pk_us (fun _ => br_f en (br_t rfl (zq_rep hw h2 pk_us (fun _ => br_f en ?_) (fun z => absurd hB z)))) (fun z => absurd hB z)
    exact zq_m103 hw hv hc hb h2 pk_us (by rw [zq_xrc, zq_xx]) K3 hp
/-- behind the call: read, repair, read, repair -/
theorem zq_tail {L i v kc ks : Nat} {xs : Nat → Int32} {J : Int32 → Int32 → (Nat → Int32) → Prop} {f : Int32} {a : Nat → Int32} (hv : v < 16) (hK : zq_K a) (hJ : ∀ a', zq_K a' → J (nI (i + 4)) f a') : wL_law_172 (fun r => r = 1) L xs J (nI i) (nI v) kc ks f a := by
  unfold wL_law_172
  obtain ⟨k, hk, ek⟩ := hK v hv
  have e4 : nI i + 4 = nI (i + 4) := nI_add i 4
  refine zq_read hv hk ek (fun hb => ?_) (fun hg => ?_)
  · refine zq_rep hv hk ek (fun _ => zq_read hv hk ek (fun _ => br_t rfl (br_t rfl (br_t rfl (br_t rfl (br_t (by decide) (nm_r e4 (hJ _ hK))))))) (fun z => absurd hb z)) (fun z => absurd hb z)
  · have hm := zq_ml hk hg
    have hok := zq_mok hg
    have hB := zq_Bl (zq_m k)
    have hl := zq_gl hg
    have n1 : ¬ nI (zq_g k) = -2 := zq_n2 (by omega)
    have n2 : ¬ nI (zq_B (zq_m k)) = -2 := zq_n2 (by omega)
    refine zq_rep hv hk ek (fun z => absurd z hg) (fun _ => zq_read hv hm pk_us (fun z => absurd z (zq_okb hok)) (fun _ => ?_))
    rw [zq_okm hok]
    refine br_t rfl (br_f n1 (br_f n2 (br_t rfl (br_f (nI_pos (by omega)) (zq_rep hv hm pk_us (fun z => absurd z (zq_okb hok)) (fun _ => ?_))))))
    rw [zq_okg hok]
    exact br_t rfl (nm_r e4 (hJ _ (zq_Ku (zq_Ku hK hm) (by rw [zq_okm hok]; exact hm))))
theorem zq_arg (x : Int32) : ∃ j : Nat, j < 13 ∧ (x &&& 255) - (x &&& 255) / 13 * 13 = nI j := by
  obtain ⟨j, hj, e⟩ := pk_andE x (m := 255) 8 (by decide)
  refine ⟨j % 13, Nat.mod_lt _ (by decide), ?_⟩
  rw [e]
  exact pk_rem (d := 13) (by omega) (by decide) (by decide)
theorem zq_end {L i : Nat} (hL : L ≤ 260) (hi : i ≤ L) : Int32.ofNat L - 4 < nI i ↔ L < i + 4 := by
  have e := pk_sub_toInt (a := L) (b := 4) (by omega) (by decide)
  have e' : (Int32.ofNat L - 4).toInt = (L : Int) - 4 := e
  rw [Int32.lt_iff_toInt_lt, e', nI_toInt (by omega)]
  omega
theorem i_vc (xs : Nat → Int32) (L : Nat) (hL : L ≤ 260) : wpL_law (fun r => r = 1) L xs := by
  refine ⟨1, 16, by decide, by decide, by decide, by decide, ?_⟩
  refine lp3 (fun n x f a => wL_law_10 (fun r => r = 1) L xs (1 + 1) (2 + 16) n x f a) (fun x f a => ∃ i p : Nat, i ≤ L ∧ p < 16 ∧ x = nI i ∧ f = nI p ∧ zq_K a) (fun x _ _ => L - x.toNatClampNeg) ?_ 0 0 (fun _ => 0) ⟨0, 0, by omega, by decide, rfl, rfl, zq_K0⟩
  rintro n x f a ⟨i, p, hi, hP, rfl, rfl, hK⟩ hn
  refine ek_if (zq_end hL hi) (fun _ => rfl) (fun hd => ?_)
  have hT : ∀ (v q : Nat) (a' : Nat → Int32), v < 16 → q < 16 → zq_K a' → wL_law_172 (fun r => r = 1) L xs (wL_law_10 (fun r => r = 1) L xs (1 + 1) (2 + 16) n) (nI i) (nI v) (1 + 1) (2 + 16) (nI q) a' := fun v q a' hv hq hK' => zq_tail hv hK' (fun b hb => hn (nI (i + 4)) (nI q) b ⟨i + 4, q, by omega, hq, rfl, rfl, hb⟩ (by
    show L - (nI (i + 4)).toNatClampNeg < L - (nI i).toNatClampNeg
    rw [nI_clamp (by omega), nI_clamp (by omega)]
    omega))
  have e1 : nI i + 1 = nI (i + 1) := nI_add i 1
  have e2 : nI i + 2 = nI (i + 2) := nI_add i 2
  have e3 : nI i + 3 = nI (i + 3) := nI_add i 3
  rw [e1, e2, e3]
  obtain ⟨w, hw, ew⟩ := pk_andE (xs (nI (i + 1)).toNatClampNeg) (m := 15) 4 (by decide)
  obtain ⟨v, hv, ev⟩ := pk_andE (xs (nI (i + 2)).toNatClampNeg) (m := 255) 8 (by decide)
  obtain ⟨c, hc, ec⟩ := zq_arg (xs (nI (i + 3)).toNatClampNeg)
  obtain ⟨b, hb, eb⟩ := zq_arg ((xs (nI (i + 3)).toNatClampNeg) >>> ((8 : Int32) &&& 31))
  obtain ⟨u, hu, eu⟩ := pk_andE ((xs (nI (i + 1)).toNatClampNeg) >>> ((4 : Int32) &&& 31)) (m := 15) 4 (by decide)
  obtain ⟨k, hk, ek⟩ := pk_andE (xs (nI i).toNatClampNeg) (m := 7) 3 (by decide)
  refine ⟨pk_in (i + 1) L (by omega), nm_r ew ⟨pk_in (i + 2) L (by omega), nm_r ev ⟨pk_in (i + 3) L (by omega), by decide, nm_r ec ⟨pk_in (i + 3) L (by omega), by decide, nm_r eb ⟨pk_in (i + 1) L (by omega), nm_r eu ⟨pk_in i L (by omega), nm_r ek ?_⟩⟩⟩⟩⟩⟩
  obtain ⟨l, hl, el⟩ := hK w hw
  refine br_f (nI_pos (by omega)) (pk_lt 3 k (fun _ => zq_flip hw hl hc el (hT u p _ hu hP (zq_Ku hK (zq_xl hl hc)))) (fun _ => ?_))
  refine pk_eq k 0 (fun _ => zq_mark hw hv hc hb hK (fun a' hK' => br_f (by decide) (hT u p a' hu hP hK'))) (fun _ => ?_)
  refine pk_eq k 1 (fun _ => zq_scr hP (by omega) hK (fun _ q a' hq hK' => hT u q a' hu hq hK')) (fun _ => ?_)
  refine pk_eq k 2 (fun _ => zq_mix hw hu hK (fun _ a' hK' => hT u p a' hu hP hK')) (fun _ => ?_)
  exact pk_eq k 3 (fun _ => zq_wri hw hv (hT u p _ hu hP (zq_Ku hK (zq_El hv)))) (fun _ => trivial)
end
