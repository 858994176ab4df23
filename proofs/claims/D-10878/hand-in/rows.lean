section
/-! the pure pictures over naturals: checks, ones, the word of a byte, the byte of a word -/
def hm_ck (m : Nat) : Nat → Nat → Nat → Nat
  | 0, _, c => c
  | j + 1, k, c => hm_ck m j (k + 1) (if m / 2 ^ k % 2 = 0 then c else c ^^^ k)
def hm_on (m : Nat) : Nat → Nat → Nat → Nat
  | 0, _, o => o
  | j + 1, k, o => hm_on m j (k + 1) (o + m / 2 ^ k % 2)
def hm_sp (v : Nat) : Nat → Nat → Nat → Nat → Nat
  | 0, _, _, w => w
  | j + 1, k, t, w => if k &&& (k - 1) = 0 then hm_sp v j (k + 1) t w else hm_sp v j (k + 1) (t + 1) (w ||| (v / 2 ^ t % 2) * 2 ^ k)
def hm_by (m : Nat) : Nat → Nat → Nat → Nat → Nat
  | 0, _, _, w => w
  | j + 1, k, t, w => if k &&& (k - 1) = 0 then hm_by m j (k + 1) t w else hm_by m j (k + 1) (t + 1) (w ||| (m / 2 ^ k % 2) * 2 ^ t)
def hm_e1 (c x w : Nat) : Nat := if c &&& x = 0 then w else w ||| 1 * 2 ^ x
def hm_c4 (m : Nat) : Nat → Nat → Nat → Nat → Nat → Nat → Nat
  | 0, _, p, q, r, s => m ||| p * 2 ^ 1 ||| q * 2 ^ 2 ||| r * 2 ^ 4 ||| s * 2 ^ 8
  | j + 1, k, p, q, r, s => hm_c4 m j (k + 1) (if k &&& 1 = 0 then p else p ^^^ (m / 2 ^ k % 2)) (if k &&& 2 = 0 then q else q ^^^ (m / 2 ^ k % 2)) (if k &&& 4 = 0 then r else r ^^^ (m / 2 ^ k % 2)) (if k &&& 8 = 0 then s else s ^^^ (m / 2 ^ k % 2))
def hm_al (m : Nat) : Nat → Nat → Nat → Nat
  | 0, _, x => x
  | j + 1, k, x => hm_al m j (k + 1) (x ^^^ (m / 2 ^ k % 2))
def hm_W (n : Nat) : Nat := hm_sp n 10 3 0 0
def hm_K (n : Nat) : Nat := hm_ck (hm_W n) 12 1 0
def hm_V (n : Nat) : Nat := hm_e1 (hm_K n) 8 (hm_e1 (hm_K n) 4 (hm_e1 (hm_K n) 2 (hm_e1 (hm_K n) 1 (hm_W n))))
def hm_E (n : Nat) : Nat := if hm_on (hm_V n) 13 0 0 % 2 = 0 then hm_V n else hm_V n ||| 1
def hm_D (n : Nat) : Nat := (n &&& 1) * 2 ^ 3 ||| (n &&& 14) * 2 ^ 4 ||| (n &&& 240) * 2 ^ 5
def hm_F (n : Nat) : Nat := hm_c4 (hm_D n) 10 3 0 0 0 0
def hm_G (n : Nat) : Nat := hm_F n ||| hm_al (hm_F n) 12 1 0
def hm_wb (m : Nat) : Nat := if hm_on m 13 0 0 % 2 = 0 then (if hm_ck m 12 1 0 = 0 then 13 else 99) else (if 12 < hm_ck m 12 1 0 then 99 else hm_ck m 12 1 0)
def hm_cw (n b : Nat) : Nat := if b = 13 then hm_E n else hm_E n ^^^ 2 ^ b
/-! the tables -/
theorem hm_t1 : ∀ n, n < 256 → hm_D n < 8192 ∧ hm_F n < 8192 ∧ hm_G n = hm_E n := by decide +kernel
theorem hm_t2 : ∀ n, n < 256 → hm_W n < 8192 ∧ hm_V n < 8192 ∧ hm_E n < 8192 ∧ hm_by (hm_E n) 10 3 0 0 = n := by decide +kernel
theorem hm_t3 : ∀ n, n < 256 → ∀ b, b < 14 → hm_cw n b < 8192 ∧ hm_wb (hm_cw n b) = b := by decide +kernel
theorem hm_E0 : hm_E 0 = 0 := by decide +kernel
end
section
/-! Int32 under the bit operations, as naturals -/
theorem hm_and (a b : Nat) : nI a &&& nI b = nI (a &&& b) := by
  apply Int32.toBitVec_inj.1
  show BitVec.ofNat 32 a &&& BitVec.ofNat 32 b = BitVec.ofNat 32 (a &&& b)
  apply BitVec.eq_of_getLsbD_eq
  intro i hi
  simp [hi]
theorem hm_xor (a b : Nat) : nI a ^^^ nI b = nI (a ^^^ b) := by
  apply Int32.toBitVec_inj.1
  show BitVec.ofNat 32 a ^^^ BitVec.ofNat 32 b = BitVec.ofNat 32 (a ^^^ b)
  apply BitVec.eq_of_getLsbD_eq
  intro i hi
  simp [hi]
theorem hm_or (a b : Nat) : nI a ||| nI b = nI (a ||| b) := by
  apply Int32.toBitVec_inj.1
  show BitVec.ofNat 32 a ||| BitVec.ofNat 32 b = BitVec.ofNat 32 (a ||| b)
  apply BitVec.eq_of_getLsbD_eq
  intro i hi
  simp [hi]
theorem hm_sm : ∀ k, k < 32 → ((nI k &&& 31).toBitVec.smod 32).toNat = k := by decide +kernel
theorem hm_shl (b : Nat) {k : Nat} (hk : k < 32) : nI b <<< (nI k &&& 31) = nI (b * 2 ^ k) := by
  apply Int32.toBitVec_inj.mp
  show BitVec.ofNat 32 b <<< ((nI k &&& 31).toBitVec.smod 32).toNat = BitVec.ofNat 32 (b * 2 ^ k)
  rw [hm_sm k hk]
  apply BitVec.eq_of_toNat_eq
  rw [BitVec.toNat_shiftLeft, Nat.shiftLeft_eq, BitVec.toNat_ofNat, BitVec.toNat_ofNat, Nat.mod_mul_mod]
theorem hm_bit {m k : Nat} (hm : m < 2 ^ 31) (hk : k < 32) : (nI m >>> (nI k &&& 31)) &&& 1 = nI (m / 2 ^ k % 2) := by
  rw [pk_shrN hm _ k (hm_sm k hk)]
  exact pk_andN (Nat.lt_of_le_of_lt (Nat.div_le_self _ _) (by omega)) 1 (by decide)
theorem hm_odd (o : Nat) : nI o &&& 1 = nI (o % 2) := by
  rw [← Nat.and_one_is_mod]
  exact hm_and o 1
theorem hm_pw : ∀ k, k < 13 → nI k &&& (nI k - 1) = nI (k &&& (k - 1)) := by decide +kernel
theorem hm_sh {m : Nat} (h : m < 8192) : (nI m).toInt16.toInt32 = nI m := by
  apply Int32.toInt_inj.mp
  rw [Int16.toInt_toInt32, Int32.toInt_toInt16, nI_toInt (by omega)]
  exact Int.bmod_eq_of_le (by omega) (by omega)
/-! the class's loops -/
theorem hm_ckw {post : Int32 → Prop} {f : Int32} {a : Nat → Int32} {m : Nat} (hm : m < 8192) : ∀ j k c, k + j = 13 → post (nI (hm_ck m j k c)) → wX_checksOf_4 post (nI m) f a (j + 1) (nI c) (nI k) := by
  intro j
  induction j with
  | zero =>
    intro k c hk h
    exact pk_le 13 k (fun _ => h) (fun z => absurd z (by omega))
  | succ j ih =>
    intro k c hk h
    rw [hm_ck] at h
    refine pk_le 13 k (fun z => absurd z (by omega)) (fun _ => ?_)
    rw [hm_bit (by omega) (by omega)]
    refine pk_eq (m / 2 ^ k % 2) 0 (fun z => nm_r (nI_1 k) (ih (k + 1) c (by omega) ?_)) (fun z => nm_r (hm_xor c k) (nm_r (nI_1 k) (ih (k + 1) _ (by omega) ?_)))
    · rw [if_pos z] at h
      exact h
    · rw [if_neg z] at h
      exact h
theorem hm_onw {post : Int32 → Prop} {f : Int32} {a : Nat → Int32} {m : Nat} (hm : m < 8192) : ∀ j k o, k + j = 13 → post (nI (hm_on m j k o)) → wX_onesIn_4 post (nI m) f a (j + 1) (nI o) (nI k) := by
  intro j
  induction j with
  | zero =>
    intro k c hk h
    exact pk_le 13 k (fun _ => h) (fun z => absurd z (by omega))
  | succ j ih =>
    intro k o hk h
    rw [hm_on] at h
    refine pk_le 13 k (fun z => absurd z (by omega)) (fun _ => ?_)
    rw [hm_bit (by omega) (by omega)]
    exact nm_r (nI_add o _) (nm_r (nI_1 k) (ih (k + 1) _ (by omega) h))
theorem hm_spw {post : Int32 → Prop} {f : Int32} {a : Nat → Int32} {v : Nat} (hv : v < 8192) : ∀ j k t w, k + j = 13 → t ≤ k → post (nI (hm_sp v j k t w)) → wX_spread_7 post (nI v) f a (j + 1) (nI w) (nI t) (nI k) := by
  intro j
  induction j with
  | zero =>
    intro k t w hk ht h
    exact pk_le 13 k (fun _ => h) (fun z => absurd z (by omega))
  | succ j ih =>
    intro k t w hk ht h
    rw [hm_sp] at h
    refine pk_le 13 k (fun z => absurd z (by omega)) (fun _ => ?_)
    rw [hm_bit (by omega) (by omega), hm_shl _ (by omega), hm_or, hm_pw k (by omega)]
    have hb : k &&& (k - 1) ≤ k := Nat.and_le_left
    refine pk_eq (k &&& (k - 1)) 0 (fun z => nm_r (nI_1 k) (ih (k + 1) t w (by omega) (by omega) ?_)) (fun z => nm_e (nm_r (nI_1 t) (nm_r (nI_1 k) (ih (k + 1) (t + 1) _ (by omega) (by omega) ?_))))
    · rw [if_pos z] at h
      exact h
    · rw [if_neg z] at h
      exact h
theorem hm_byw {post : Int32 → Prop} {f : Int32} {a : Nat → Int32} {m : Nat} (hm : m < 8192) : ∀ j k t w, k + j = 13 → t ≤ k → post (nI (hm_by m j k t w)) → wX_byteIn_7 post (nI m) f a (j + 1) (nI w) (nI t) (nI k) := by
  intro j
  induction j with
  | zero =>
    intro k t w hk ht h
    exact pk_le 13 k (fun _ => h) (fun z => absurd z (by omega))
  | succ j ih =>
    intro k t w hk ht h
    rw [hm_by] at h
    refine pk_le 13 k (fun z => absurd z (by omega)) (fun _ => ?_)
    rw [hm_bit (by omega) (by omega), hm_shl _ (by omega), hm_or, hm_pw k (by omega)]
    have hb : k &&& (k - 1) ≤ k := Nat.and_le_left
    refine pk_eq (k &&& (k - 1)) 0 (fun z => nm_r (nI_1 k) (ih (k + 1) t w (by omega) (by omega) ?_)) (fun z => nm_e (nm_r (nI_1 t) (nm_r (nI_1 k) (ih (k + 1) (t + 1) _ (by omega) (by omega) ?_))))
    · rw [if_pos z] at h
      exact h
    · rw [if_neg z] at h
      exact h
/-! the class's small methods -/
theorem hm_chk {post : Int32 → Prop} {u : St2} {m : Nat} (hm : m < 8192) (h : post (nI (hm_ck m 12 1 0))) : wpX_checksOf post u (nI m) := by
  obtain ⟨f, a⟩ := u
  exact ⟨13, hm_ckw hm 12 1 0 rfl h⟩
theorem hm_one {post : Int32 → Prop} {u : St2} {m : Nat} (hm : m < 8192) (h : post (nI (hm_on m 13 0 0))) : wpX_onesIn post u (nI m) := by
  obtain ⟨f, a⟩ := u
  exact ⟨14, hm_onw hm 13 0 0 rfl h⟩
theorem hm_isodd {post : Int32 → Prop} {u : St2} {m : Nat} (hm : m < 8192) (h0 : hm_on m 13 0 0 % 2 = 0 → post 0) (h1 : ¬ hm_on m 13 0 0 % 2 = 0 → post 1) : wpX_isOdd post u (nI m) := by
  obtain ⟨f, a⟩ := u
  unfold wpX_isOdd
  refine hm_one hm ?_
  rw [hm_odd]
  exact pk_eq (hm_on m 13 0 0 % 2) 0 h0 h1
theorem hm_spr {post : Int32 → Prop} {u : St2} {n : Nat} (hn : n < 256) (h : post (nI (hm_W n))) : wpX_spread post u (nI n) := by
  obtain ⟨f, a⟩ := u
  exact ⟨11, hm_spw (by omega) 10 3 0 0 rfl (by omega) h⟩
theorem hm_byte {post : Int32 → Prop} {u : St2} {n : Nat} (hn : n < 256) (h : post (nI n)) : wpX_byteIn post u (nI (hm_E n)) := by
  obtain ⟨f, a⟩ := u
  obtain ⟨_, _, h3, h4⟩ := hm_t2 n hn
  refine ⟨11, hm_byw h3 10 3 0 0 rfl (by omega) ?_⟩
  rw [h4]
  exact h
theorem hm_e1w {post : Int32 → Prop} {f : Int32} {a : Nat → Int32} {n c x w : Nat} (hx : x ≤ 8) (h : wX_encoded_15 post (nI c) f a n (nI (hm_e1 c x w)) (nI (x * 2))) : wX_encoded_15 post (nI c) f a (n + 1) (nI w) (nI x) := by
  unfold hm_e1 at h
  have hb : c &&& x ≤ x := Nat.and_le_right
  have es : (1 : Int32) <<< (nI x &&& 31) = nI (1 * 2 ^ x) := hm_shl 1 (by omega)
  refine pk_lt 8 x (fun z => absurd z (by omega)) (fun _ => ?_)
  rw [hm_and, es, hm_or]
  refine pk_eq (c &&& x) 0 (fun z => nm_r (pk_mul x 2) ?_) (fun z => nm_e (nm_r (pk_mul x 2) ?_))
  · rw [if_pos z] at h
    exact h
  · rw [if_neg z] at h
    exact h
theorem hm_enc {post : Int32 → Prop} {u : St2} {n : Nat} (hn : n < 256) (h : post (nI (hm_E n))) : wpX_encoded post u (nI n) := by
  obtain ⟨f, a⟩ := u
  obtain ⟨h1, h2, h3, h4⟩ := hm_t2 n hn
  unfold hm_E at h
  unfold wpX_encoded
  refine hm_spr hn (hm_chk h1 ⟨5, hm_e1w (c := hm_K n) (x := 1) (by omega) (hm_e1w (x := 2) (by omega) (hm_e1w (x := 4) (by omega) (hm_e1w (x := 8) (by omega) ?_)))⟩)
  refine pk_lt 8 16 (fun _ => ?_) (fun z => absurd z (by omega))
  refine hm_isodd (m := hm_V n) h2 (fun z => br_t rfl ?_) (fun z => br_f (by decide) ?_)
  · rw [if_pos z] at h
    exact h
  · rw [if_neg z, ← hm_or] at h
    exact h
theorem hm_wrong {post : Int32 → Prop} {u : St2} {n b : Nat} (hn : n < 256) (hb : b < 14) (h : post (nI b)) : wpX_wrongBit post u (nI (hm_cw n b)) := by
  obtain ⟨f, a⟩ := u
  obtain ⟨h1, h2⟩ := hm_t3 n hn b hb
  generalize hm_cw n b = m at h1 h2 ⊢
  unfold hm_wb at h2
  unfold wpX_wrongBit
  refine hm_chk h1 (hm_isodd h1 (fun z => br_t rfl ?_) (fun z => br_f (by decide) ?_))
  · rw [if_pos z] at h2
    by_cases e : hm_ck m 12 1 0 = 0
    · rw [if_pos e] at h2
      rw [e]
      subst h2
      exact br_t rfl h
    · rw [if_neg e] at h2
      omega
  · rw [if_neg z] at h2
    by_cases e : 12 < hm_ck m 12 1 0
    · rw [if_pos e] at h2
      omega
    · rw [if_neg e] at h2
      rw [h2] at e ⊢
      exact pk_lt 12 b (fun z => absurd z e) (fun _ => h)
theorem hm_mend {post : Int32 → Prop} {u : St2} {n b : Nat} (hb : b < 14) (h : post (nI (hm_E n))) : wpX_mended post u (nI (hm_cw n b)) (nI b) := by
  obtain ⟨f, a⟩ := u
  have es : (1 : Int32) <<< (nI b &&& 31) = nI (1 * 2 ^ b) := hm_shl 1 (by omega)
  unfold wpX_mended
  dsimp only
  rw [es, hm_xor]
  unfold hm_cw
  refine pk_eq b 13 (fun z => ?_) (fun z => ?_)
  · rw [if_pos z]
    exact h
  · rw [if_neg z, Nat.one_mul, Nat.xor_assoc, Nat.xor_self, Nat.xor_zero]
    exact h
/-! the law's own coder -/
theorem hm_L87 {post : Int32 → Prop} {J : Int32 → Int32 → Int32 → Int32 → Int32 → Prop} {x1 p q r : Int32} {s k b : Nat} (h : J p q r (nI (if k &&& 8 = 0 then s else s ^^^ b)) (nI (k + 1))) : wL_code_87 post J x1 p q r (nI s) (nI k) (nI b) := by
  have hb : k &&& 8 ≤ 8 := Nat.and_le_right
  unfold wL_code_87
  rw [show nI k &&& (8 : Int32) = nI (k &&& 8) from hm_and k 8, hm_xor]
  refine pk_eq (k &&& 8) 0 (fun z => nm_r (nI_1 k) ?_) (fun z => nm_e (nm_r (nI_1 k) ?_))
  · rw [if_pos z] at h
    exact h
  · rw [if_neg z] at h
    exact h
theorem hm_L73 {post : Int32 → Prop} {J : Int32 → Int32 → Int32 → Int32 → Int32 → Prop} {x1 p q : Int32} {r s k b : Nat} (h : J p q (nI (if k &&& 4 = 0 then r else r ^^^ b)) (nI (if k &&& 8 = 0 then s else s ^^^ b)) (nI (k + 1))) : wL_code_73 post J x1 p q (nI r) (nI s) (nI k) (nI b) := by
  have hb : k &&& 4 ≤ 4 := Nat.and_le_right
  unfold wL_code_73
  rw [show nI k &&& (4 : Int32) = nI (k &&& 4) from hm_and k 4, hm_xor]
  refine pk_eq (k &&& 4) 0 (fun z => hm_L87 ?_) (fun z => nm_e (hm_L87 ?_))
  · rw [if_pos z] at h
    exact h
  · rw [if_neg z] at h
    exact h
theorem hm_L61 {post : Int32 → Prop} {J : Int32 → Int32 → Int32 → Int32 → Int32 → Prop} {x1 p : Int32} {q r s k b : Nat} (h : J p (nI (if k &&& 2 = 0 then q else q ^^^ b)) (nI (if k &&& 4 = 0 then r else r ^^^ b)) (nI (if k &&& 8 = 0 then s else s ^^^ b)) (nI (k + 1))) : wL_code_61 post J x1 p (nI q) (nI r) (nI s) (nI k) (nI b) := by
  have hb : k &&& 2 ≤ 2 := Nat.and_le_right
  unfold wL_code_61
  rw [show nI k &&& (2 : Int32) = nI (k &&& 2) from hm_and k 2, hm_xor]
  refine pk_eq (k &&& 2) 0 (fun z => hm_L73 ?_) (fun z => nm_e (hm_L73 ?_))
  · rw [if_pos z] at h
    exact h
  · rw [if_neg z] at h
    exact h
theorem hm_L135 {post : Int32 → Prop} {m : Nat} (hm : m < 8192) : ∀ j k x, k + j = 13 → post (nI (m ||| hm_al m j k x)) → wL_code_135 post (nI m) (j + 1) (nI x) (nI k) := by
  intro j
  induction j with
  | zero =>
    intro k x hk h
    refine pk_lt 12 k (fun _ => ?_) (fun z => absurd z (by omega))
    rw [hm_or]
    exact h
  | succ j ih =>
    intro k x hk h
    rw [hm_al] at h
    refine pk_lt 12 k (fun z => absurd z (by omega)) (fun _ => ?_)
    rw [hm_bit (by omega) (by omega), hm_xor]
    exact nm_e (nm_r (nI_1 k) (ih (k + 1) _ (by omega) h))
theorem hm_L34 {post : Int32 → Prop} {m M : Nat} (hm : m < 8192) (hM : M < 8192) (hp : post (nI (M ||| hm_al M 12 1 0))) : ∀ j k p q r s, k + j = 13 → hm_c4 m j k p q r s = M → wL_code_34 post (nI m) (j + 1) (nI p) (nI q) (nI r) (nI s) (nI k) := by
  intro j
  induction j with
  | zero =>
    intro k p q r s hk h
    rw [hm_c4] at h
    refine pk_lt 12 k (fun _ => ?_) (fun z => absurd z (by omega))
    have e1 : nI p <<< ((1 : Int32) &&& 31) = nI (p * 2 ^ 1) := hm_shl p (k := 1) (by omega)
    have e2 : nI q <<< ((2 : Int32) &&& 31) = nI (q * 2 ^ 2) := hm_shl q (k := 2) (by omega)
    have e3 : nI r <<< ((4 : Int32) &&& 31) = nI (r * 2 ^ 4) := hm_shl r (k := 4) (by omega)
    have e4 : nI s <<< ((8 : Int32) &&& 31) = nI (s * 2 ^ 8) := hm_shl s (k := 8) (by omega)
    rw [e1, e2, e3, e4, hm_or, hm_or, hm_or, hm_or, h]
    exact nm_e ⟨13, hm_L135 hM 12 1 0 rfl hp⟩
  | succ j ih =>
    intro k p q r s hk h
    rw [hm_c4] at h
    have hb : k &&& 1 ≤ 1 := Nat.and_le_right
    refine pk_lt 12 k (fun z => absurd z (by omega)) (fun _ => nm_r (hm_bit (by omega) (by omega)) ?_)
    rw [show nI k &&& (1 : Int32) = nI (k &&& 1) from hm_and k 1, hm_xor]
    refine pk_eq (k &&& 1) 0 (fun z => hm_L61 (ih (k + 1) _ _ _ _ (by omega) ?_)) (fun z => nm_e (hm_L61 (ih (k + 1) _ _ _ _ (by omega) ?_)))
    · rw [if_pos z] at h
      exact h
    · rw [if_neg z] at h
      exact h
theorem hm_code {post : Int32 → Prop} {u : St0} {n : Nat} (hn : n < 256) (h : post (nI (hm_E n))) : wpL_code post u (nI n) := by
  obtain ⟨h1, h2, h3⟩ := hm_t1 n hn
  rw [← h3] at h
  unfold wpL_code
  have e1 : nI n &&& (1 : Int32) = nI (n &&& 1) := hm_and n 1
  have e2 : nI n &&& (14 : Int32) = nI (n &&& 14) := hm_and n 14
  have e3 : nI n &&& (240 : Int32) = nI (n &&& 240) := hm_and n 240
  have d1 : nI (n &&& 1) <<< ((3 : Int32) &&& 31) = nI ((n &&& 1) * 2 ^ 3) := hm_shl _ (k := 3) (by omega)
  have d2 : nI (n &&& 14) <<< ((4 : Int32) &&& 31) = nI ((n &&& 14) * 2 ^ 4) := hm_shl _ (k := 4) (by omega)
  have d3 : nI (n &&& 240) <<< ((5 : Int32) &&& 31) = nI ((n &&& 240) * 2 ^ 5) := hm_shl _ (k := 5) (by omega)
  rw [e1, e2, e3, d1, d2, d3, hm_or, hm_or]
  exact nm_e ⟨11, hm_L34 h1 h2 h 10 3 0 0 0 0 rfl rfl⟩
end
section
/-! the picture of the sixteen words: h the held bytes, b the one wrong bit (13: none) -/
def hm_P (a : Nat → Int32) (h b : Nat → Nat) : Prop := ∀ j, j < 16 → h j < 256 ∧ b j < 14 ∧ a j = nI (hm_cw (h j) (b j))
def hm_cnt (b : Nat → Nat) : Nat → Nat
  | 0 => 0
  | k + 1 => if 13 ≤ b k then hm_cnt b k else hm_cnt b k + 1
theorem hm_cnt0 : ∀ k, hm_cnt (fun _ => 13) k = 0 := by
  intro k
  induction k with
  | zero => rfl
  | succ k ih =>
    rw [hm_cnt, if_pos (Nat.le_refl 13), ih]
theorem hm_cnt1 {v c : Nat} (hc : c < 13) : ∀ k, hm_cnt (fun j => if j = v then c else 13) k = if v < k then 1 else 0 := by
  intro k
  induction k with
  | zero => rfl
  | succ k ih =>
    rw [hm_cnt, ih]
    by_cases e : k = v
    · rw [if_pos e, if_neg (show ¬ 13 ≤ c by omega), if_neg (show ¬ v < k by omega), if_pos (show v < k + 1 by omega)]
    · rw [if_neg e, if_pos (Nat.le_refl 13)]
      by_cases g : v < k
      · rw [if_pos g, if_pos (show v < k + 1 by omega)]
      · rw [if_neg g, if_neg (show ¬ v < k + 1 by omega)]
theorem hm_cw13 (n : Nat) : hm_cw n 13 = hm_E n := if_pos rfl
theorem hm_cwc (n : Nat) {c : Nat} (hc : c < 13) : hm_cw n c = hm_E n ^^^ 2 ^ c := if_neg (by omega)
theorem hm_P0 : hm_P (fun _ => 0) (fun _ => 0) (fun _ => 13) := by
  intro j _
  refine ⟨show 0 < 256 by decide, show 13 < 14 by decide, ?_⟩
  show (0 : Int32) = nI (hm_cw 0 13)
  rw [hm_cw13, hm_E0]
  rfl
theorem hm_Pup {a : Nat → Int32} {h b : Nat → Nat} {w n c : Nat} (hP : hm_P a h b) (hn : n < 256) (hc : c < 14) : hm_P (upd a w (nI (hm_cw n c))) (fun j => if j = w then n else h j) (fun j => if j = w then c else b j) := by
  intro j hj
  dsimp only
  by_cases e : j = w
  · rw [if_pos e, if_pos e, e, pk_us]
    exact ⟨hn, hc, rfl⟩
  · rw [if_neg e, if_neg e, pk_un e]
    exact hP j hj
theorem hm_Pup13 {a : Nat → Int32} {h : Nat → Nat} {w n : Nat} (hP : hm_P a h (fun _ => 13)) (hn : n < 256) : hm_P (upd a w (nI (hm_cw n 13))) (fun j => if j = w then n else h j) (fun _ => 13) := by
  intro j hj
  dsimp only
  by_cases e : j = w
  · rw [if_pos e, e, pk_us]
    exact ⟨hn, by decide, rfl⟩
  · rw [if_neg e, pk_un e]
    exact hP j hj
theorem hm_n2 : ∀ b, b < 14 → ¬ nI b = -2 := by decide +kernel
theorem hm_10 : ¬ (1 : Int32) = 0 := by decide
/-! isWord -/
theorem hm_iw0 {post : Int32 → Prop} {u : St2} {x : Int32} (hx : x < 0 ∨ 15 < x) (h : post 0) : wpX_isWord post u x := by
  obtain ⟨f, a⟩ := u
  exact br_c (fun _ => h) (fun z => br_c (fun _ => h) (fun z2 => absurd hx (fun t => t.elim z z2)))
theorem hm_iwc {post : Int32 → Prop} {u : St2} {x : Int32} (hx : ¬ (x < 0 ∨ 15 < x)) (h : post 1) : wpX_isWord post u x := by
  obtain ⟨f, a⟩ := u
  exact br_f (fun z => hx (Or.inl z)) (br_f (fun z => hx (Or.inr z)) h)
theorem hm_iw1 {post : Int32 → Prop} {u : St2} {v : Nat} (hv : v < 16) (h : post 1) : wpX_isWord post u (nI v) := by
  refine hm_iwc (fun t => ?_) h
  rcases t with z | z
  · exact nI_pos (by omega) z
  · exact nI_nlt (a := 15) (b := v) (by omega) (by omega) z
/-! the methods -/
theorem hm_wr0 {post : Int32 → St2 → Prop} {f : Int32} {a : Nat → Int32} {x y : Int32} (hx : (x < 0 ∨ 15 < x) ∨ y < 0 ∨ 255 < y) (h : post (-1) (f, a)) : wpX_write post (f, a) x y := by
  unfold wpX_write
  by_cases hw : x < 0 ∨ 15 < x
  · exact hm_iw0 hw (br_t rfl h)
  · refine hm_iwc hw (br_f hm_10 (br_c (fun _ => h) (fun z => br_c (fun z2 => ?_) (fun _ => h))))
    rcases hx with t | t | t
    · exact absurd t hw
    · exact absurd t z
    · exact absurd z2 (Int32.not_le.mpr t)
theorem hm_wr1 {post : Int32 → St2 → Prop} {f : Int32} {a : Nat → Int32} {w n : Nat} (hw : w < 16) (hn : n < 256) (h : post (nI (hm_cw n 13)) (f, upd a w (nI (hm_cw n 13)))) : wpX_write post (f, a) (nI w) (nI n) := by
  obtain ⟨_, _, h3, _⟩ := hm_t2 n hn
  rw [hm_cw13] at h
  have e : upd a (nI w).toNatClampNeg (nI (hm_E n)).toInt16.toInt32 = upd a w (nI (hm_E n)) := by rw [nI_clamp (by omega), hm_sh h3]
  unfold wpX_write
  refine hm_iw1 hw (br_f hm_10 (br_f (nI_pos (by omega)) (br_t (nI_le (a := n) (b := 255) (by omega) (by decide)) (hm_enc hn ⟨pk_in w 16 hw, nm_r e ⟨pk_in w 16 hw, ?_⟩⟩))))
  rw [nI_clamp (by omega), pk_us]
  exact h
theorem hm_fl0 {post : Int32 → St2 → Prop} {f : Int32} {a : Nat → Int32} {x y : Int32} (hx : (x < 0 ∨ 15 < x) ∨ y < 0 ∨ 12 < y) (h : post (-1) (f, a)) : wpX_flip post (f, a) x y := by
  unfold wpX_flip
  by_cases hw : x < 0 ∨ 15 < x
  · exact hm_iw0 hw (br_t rfl h)
  · refine hm_iwc hw (br_f hm_10 (br_c (fun _ => h) (fun z => br_c (fun z2 => ?_) (fun _ => h))))
    rcases hx with t | t | t
    · exact absurd t hw
    · exact absurd t z
    · exact absurd z2 (Int32.not_le.mpr t)
theorem hm_fl1 {post : Int32 → St2 → Prop} {f : Int32} {a : Nat → Int32} {h b : Nat → Nat} {v c : Nat} (hP : hm_P a h b) (hv : v < 16) (hb : b v = 13) (hc : c < 13) (hp : post (nI (hm_cw (h v) c)) (f, upd a v (nI (hm_cw (h v) c)))) : wpX_flip post (f, a) (nI v) (nI c) := by
  obtain ⟨h1, h2, h3⟩ := hP v hv
  have h4 := (hm_t3 (h v) h1 c (by omega)).1
  rw [hb, hm_cw13] at h3
  have es : (1 : Int32) <<< (nI c &&& 31) = nI (1 * 2 ^ c) := hm_shl 1 (by omega)
  have e : upd a (nI v).toNatClampNeg ((a (nI v).toNatClampNeg ^^^ ((1 : Int32) <<< (nI c &&& 31))).toInt16.toInt32) = upd a v (nI (hm_cw (h v) c)) := by
    rw [nI_clamp (by omega), h3, es, hm_xor, Nat.one_mul, ← hm_cwc (h v) hc, hm_sh h4]
  unfold wpX_flip
  refine hm_iw1 hv (br_f hm_10 (br_f (nI_pos (by omega)) (br_t (nI_le (a := c) (b := 12) (by omega) (by decide)) ⟨pk_in v 16 hv, pk_in v 16 hv, nm_r e ⟨pk_in v 16 hv, ?_⟩⟩)))
  rw [nI_clamp (by omega), pk_us]
  exact hp
theorem hm_rd0 {post : Int32 → Prop} {u : St2} {x : Int32} (hx : x < 0 ∨ 15 < x) (h : post (-1)) : wpX_read post u x := by
  obtain ⟨f, a⟩ := u
  unfold wpX_read
  exact hm_iw0 hx (br_t rfl h)
theorem hm_rd1 {post : Int32 → Prop} {f : Int32} {a : Nat → Int32} {h b : Nat → Nat} {v : Nat} (hP : hm_P a h b) (hv : v < 16) (hp : post (nI (h v))) : wpX_read post (f, a) (nI v) := by
  obtain ⟨h1, h2, h3⟩ := hP v hv
  unfold wpX_read
  dsimp only
  rw [nI_clamp (show v < 2 ^ 31 by omega), h3]
  exact hm_iw1 hv (br_f hm_10 ⟨pk_in v 16 hv, hm_wrong h1 h2 (br_f (hm_n2 (b v) h2) ⟨pk_in v 16 hv, hm_mend h2 (hm_byte h1 hp)⟩)⟩)
theorem hm_rw0 {post : Int32 → Prop} {u : St2} {x : Int32} (hx : x < 0 ∨ 15 < x) (h : post (-1)) : wpX_raw post u x := by
  obtain ⟨f, a⟩ := u
  unfold wpX_raw
  exact hm_iw0 hx (br_t rfl h)
theorem hm_rw1 {post : Int32 → Prop} {f : Int32} {a : Nat → Int32} {h b : Nat → Nat} {v : Nat} (hP : hm_P a h b) (hv : v < 16) (hp : post (nI (hm_cw (h v) (b v)))) : wpX_raw post (f, a) (nI v) := by
  obtain ⟨h1, h2, h3⟩ := hP v hv
  unfold wpX_raw
  dsimp only
  rw [nI_clamp (show v < 2 ^ 31 by omega), h3]
  exact hm_iw1 hv (br_f hm_10 ⟨pk_in v 16 hv, hp⟩)
theorem hm_rp0 {post : Int32 → St2 → Prop} {f : Int32} {a : Nat → Int32} {x : Int32} (hx : x < 0 ∨ 15 < x) (h : ∀ s, post (-1) s) : wpX_repair post (f, a) x := by
  unfold wpX_repair
  exact hm_iw0 hx (br_t rfl (h _))
theorem hm_rp1 {post : Int32 → St2 → Prop} {f : Int32} {a : Nat → Int32} {h b : Nat → Nat} {v : Nat} (hP : hm_P a h b) (hv : v < 16) (hp : ∀ s, post (nI (b v)) s) : wpX_repair post (f, a) (nI v) := by
  obtain ⟨h1, h2, h3⟩ := hP v hv
  unfold wpX_repair
  dsimp only
  rw [nI_clamp (show v < 2 ^ 31 by omega), h3]
  exact hm_iw1 hv (br_f hm_10 ⟨pk_in v 16 hv, hm_wrong h1 h2 (br_f (nI_pos (by omega)) ⟨pk_in v 16 hv, hm_mend h2 ⟨pk_in v 16 hv, nm_e (hp _)⟩⟩)⟩)
theorem hm_mar {post : Int32 → Prop} {f : Int32} {a : Nat → Int32} {h b : Nat → Nat} (hP : hm_P a h b) (hp : post (nI (hm_cnt b 16))) : wpX_marred post (f, a) := by
  unfold wpX_marred
  dsimp only
  refine pk_loop (σ := Unit) (fun n i _ => wX_marred_4 post f a n (nI (hm_cnt b i)) (nI i)) (fun _ _ => True) 16 0 () (by omega) trivial ?_ ?_
  · intro n _ _
    exact pk_le 16 16 (fun _ => hp) (fun z => absurd z (by omega))
  · intro n i _ hi _ hw
    obtain ⟨h1, h2, h3⟩ := hP i hi
    have t : wX_marred_4 post f a n (nI (hm_cnt b (i + 1))) (nI (i + 1)) := hw () trivial
    rw [hm_cnt] at t
    show wX_marred_4 post f a (n + 1) (nI (hm_cnt b i)) (nI i)
    refine pk_le 16 i (fun z => absurd z (by omega)) (fun _ => ⟨pk_in i 16 hi, ?_⟩)
    rw [nI_clamp (show i < 2 ^ 31 by omega), h3]
    refine hm_wrong h1 h2 (br_f (nI_pos (by omega)) (pk_le 13 (b i) (fun z => nm_r (nI_1 i) ?_) (fun z => nm_r (nI_1 _) (nm_r (nI_1 i) ?_))))
    · rw [if_pos z] at t
      exact t
    · rw [if_neg (show ¬ 13 ≤ b i by omega)] at t
      exact t
end
section
/-! the law's tail, behind the write: three cases -/
theorem hm_T0 {mc ms kc ks : Nat} {x2 x3 x7 x9 z : Int32} {f : Int32} {a : Nat → Int32} {h : Nat → Nat} (hP : hm_P a h (fun _ => 13)) (hx : x2 < 0 ∨ 15 < x2) : wL_lawOf_142 (fun r _ => r = 1) mc ms x2 x3 0 0 x7 x9 z z kc ks f a :=
  br_t rfl (hm_fl0 (Or.inl hx) (br_t rfl (br_t rfl (hm_rd0 hx (br_t rfl (br_t rfl (hm_rw0 hx (br_t rfl (br_t rfl (hm_mar hP (br_t rfl (br_t (by rw [hm_cnt0]; rfl) (hm_rp0 hx (fun _ => br_t rfl (br_t rfl rfl)))))))))))))))
theorem hm_T1 {mc ms kc ks : Nat} {x3 z : Int32} {v : Nat} {f : Int32} {a : Nat → Int32} {h : Nat → Nat} (hP : hm_P a h (fun _ => 13)) (hv : v < 16) (hy : x3 < 0 ∨ 12 < x3) : wL_lawOf_142 (fun r _ => r = 1) mc ms (nI v) x3 1 0 (nI (h v)) (nI (hm_E (h v))) z z kc ks f a :=
  br_t rfl (hm_fl0 (Or.inr hy) (br_t rfl (br_t rfl (hm_rd1 hP hv (br_f hm_10 (br_t rfl (hm_rw1 hP hv (br_f hm_10 (br_t (by rw [hm_cw13]) (hm_mar hP (br_t rfl (br_t (by rw [hm_cnt0]; rfl) (hm_rp1 hP hv (fun _ => br_f hm_10 (br_t rfl (br_t rfl rfl))))))))))))))))
theorem hm_T2 {mc ms kc ks : Nat} {z : Int32} {v c : Nat} {f : Int32} {a : Nat → Int32} {h : Nat → Nat} (hP : hm_P a h (fun _ => 13)) (hv : v < 16) (hc : c < 13) : wL_lawOf_142 (fun r _ => r = 1) mc ms (nI v) (nI c) 1 1 (nI (h v)) (nI (hm_cw (h v) c)) z z kc ks f a := by
  have hP' := hm_Pup (w := v) (n := h v) (c := c) hP (hP v hv).1 (by omega)
  have e1 : (if v = v then h v else h v) = h v := if_pos rfl
  have e2 : (if v = v then c else 13) = c := if_pos rfl
  refine br_t rfl (hm_fl1 hP hv rfl hc (br_f hm_10 (br_t rfl ?_)))
  refine hm_rd1 hP' hv (br_f hm_10 (br_t (by rw [e1]) ?_))
  refine hm_rw1 hP' hv (br_f hm_10 (br_t (by rw [e1, e2]) ?_))
  refine hm_mar hP' (br_f hm_10 (br_t (by rw [hm_cnt1 hc, if_pos hv]; rfl) ?_))
  exact hm_rp1 hP' hv (fun _ => br_f hm_10 (br_f hm_10 (br_t (by rw [e2]) rfl)))
/-! what the three flags say -/
def hm_put (x0 x1 x4 : Int32) : Prop := (x4 = 0 ∧ ((x0 < 0 ∨ 15 < x0) ∨ x1 < 0 ∨ 255 < x1)) ∨ (x4 = 1 ∧ ∃ w n : Nat, w < 16 ∧ n < 256 ∧ x0 = nI w ∧ x1 = nI n)
def hm_oth (x2 x5 : Int32) : Prop := (x5 = 0 ∧ (x2 < 0 ∨ 15 < x2)) ∨ (x5 = 1 ∧ ∃ v : Nat, v < 16 ∧ x2 = nI v)
def hm_trn (x5 x3 x6 : Int32) : Prop := (x6 = 0 ∧ (x5 = 0 ∨ x3 < 0 ∨ 12 < x3)) ∨ (x6 = 1 ∧ x5 = 1 ∧ ∃ c : Nat, c < 13 ∧ x3 = nI c)
/-- the tail for any flags: o is what the law holds due at v -/
theorem hm_T {mc ms kc ks o : Nat} {x2 x3 x5 x6 x9 z : Int32} {f : Int32} {a : Nat → Int32} {h : Nat → Nat} (hP : hm_P a h (fun _ => 13)) (ho : hm_oth x2 x5) (ht : hm_trn x5 x3 x6) (hh : ∀ v : Nat, v < 16 → x2 = nI v → o = h v) (h0 : x6 = 0 → x9 = nI (hm_E o)) (h1 : ¬ x6 = 0 → x9 = nI (hm_E o) ^^^ ((1 : Int32) <<< (x3 &&& 31))) : wL_lawOf_142 (fun r _ => r = 1) mc ms x2 x3 x5 x6 (nI o) x9 z z kc ks f a := by
  rcases ho with ⟨rfl, hx⟩ | ⟨rfl, v, hv, rfl⟩
  · rcases ht with ⟨rfl, _⟩ | ⟨_, e, _⟩
    · exact hm_T0 hP hx
    · exact absurd e.symm hm_10
  · rw [hh v hv rfl] at h0 h1 ⊢
    rcases ht with ⟨rfl, hy⟩ | ⟨rfl, _, c, hc, rfl⟩
    · rw [h0 rfl]
      refine hm_T1 hP hv ?_
      rcases hy with t | t
      · exact absurd t hm_10
      · exact t
    · have es : (1 : Int32) <<< (nI c &&& 31) = nI (1 * 2 ^ c) := hm_shl 1 (by omega)
      rw [h1 hm_10, es, hm_xor, Nat.one_mul, ← hm_cwc (h v) hc]
      exact hm_T2 hP hv hc
theorem hm_255 {n : Nat} (hn : n < 256) : nI n &&& 255 = nI n := by
  rw [pk_andN (by omega) 8 (by decide), Nat.mod_eq_of_lt hn]
theorem hm_107 {x0 x1 x2 x3 x4 x5 x6 z : Int32} {o : Nat} (hp : hm_put x0 x1 x4) (ho : hm_oth x2 x5) (ht : hm_trn x5 x3 x6) (hw : x4 = 1 → ∀ w n : Nat, w < 16 → n < 256 → x0 = nI w → x1 = nI n → ∀ v : Nat, v < 16 → x2 = nI v → o = if v = w then n else 0) (hz : x4 = 0 → o = 0) (h0 : x6 = 0 → z = nI (hm_E o)) (h1 : ¬ x6 = 0 → z = nI (hm_E o) ^^^ ((1 : Int32) <<< (x3 &&& 31))) : wL_lawOf_107 (fun r _ => r = 1) 10 144 x0 x1 x2 x3 x4 x5 x6 (nI o) z 0 0 := by
  unfold wL_lawOf_107
  refine ⟨by omega, by omega, 1, 16, by omega, by omega, by omega, by omega, ?_⟩
  rcases hp with ⟨rfl, hx⟩ | ⟨rfl, w, n, hw1, hn1, rfl, rfl⟩
  · exact hm_wr0 hx (br_t rfl (hm_T hm_P0 ho ht (fun v _ _ => hz rfl) h0 h1))
  · have hP' := hm_Pup13 (w := w) (n := n) hm_P0 hn1
    refine hm_wr1 hw1 hn1 (br_f hm_10 ?_)
    rw [hm_255 hn1]
    refine hm_code hn1 ?_
    rw [← hm_cw13]
    exact hm_T hP' ho ht (fun v hv ev => hw rfl w n hw1 hn1 rfl rfl v hv ev) h0 h1
theorem hm_82 {x0 x1 x2 x3 x4 x5 x6 : Int32} {o : Nat} (ho256 : o < 256) (hp : hm_put x0 x1 x4) (ho : hm_oth x2 x5) (ht : hm_trn x5 x3 x6) (hw : x4 = 1 → ∀ w n : Nat, w < 16 → n < 256 → x0 = nI w → x1 = nI n → ∀ v : Nat, v < 16 → x2 = nI v → o = if v = w then n else 0) (hz : x4 = 0 → o = 0) : wL_lawOf_82 (fun r _ => r = 1) 10 144 x0 x1 x2 x3 x4 x5 x6 (nI o) 0 0 := by
  unfold wL_lawOf_82
  exact hm_code ho256 (br_c (fun z => hm_107 hp ho ht hw hz (fun _ => rfl) (fun t => absurd z t)) (fun z => hm_107 hp ho ht hw hz (fun t => absurd t z) (fun _ => rfl)))
theorem hm_65 {x0 x1 x2 x3 x4 x5 x6 : Int32} (hp : hm_put x0 x1 x4) (ho : hm_oth x2 x5) (ht : hm_trn x5 x3 x6) : wL_lawOf_65 (fun r _ => r = 1) 10 144 x0 x1 x2 x3 x4 x5 x6 0 0 := by
  unfold wL_lawOf_65
  refine br_c (fun z => ?_) (fun z => ?_)
  · exact hm_82 (o := 0) (by decide) hp ho ht (fun t => absurd (t.symm.trans z) hm_10) (fun _ => rfl)
  · have hp' := hp
    rcases hp with ⟨t, _⟩ | ⟨e4, w, n, hw1, hn1, e0, e1⟩
    · exact absurd t z
    · refine br_c (fun e => ?_) (fun e => ?_)
      · have t : wL_lawOf_82 (fun r _ => r = 1) 10 144 x0 x1 x2 x3 x4 x5 x6 (nI n) 0 0 := by
          refine hm_82 (o := n) hn1 hp' ho ht (fun _ w' n' hw' hn' e0' e1' v hv ev => ?_) (fun t => absurd t z)
          rw [e1, nI_eq (by omega) (by omega)] at e1'
          rw [ev, e0', nI_eq (by omega) (by omega)] at e
          rw [if_pos e, e1']
        rw [← e1] at t
        exact t
      · refine hm_82 (o := 0) (by decide) hp' ho ht (fun _ w' n' hw' hn' e0' e1' v hv ev => ?_) (fun t => absurd t z)
        rw [ev, e0', nI_eq (by omega) (by omega)] at e
        rw [if_neg e]
theorem hm_43 {x0 x1 x2 x3 x4 x5 : Int32} (hp : hm_put x0 x1 x4) (ho : hm_oth x2 x5) : wL_lawOf_43 (fun r _ => r = 1) 10 144 x0 x1 x2 x3 x4 x5 0 0 := by
  unfold wL_lawOf_43
  refine br_c (fun z => hm_65 hp ho (Or.inl ⟨rfl, Or.inl z⟩)) (fun z => br_c (fun g => hm_65 hp ho (Or.inl ⟨rfl, Or.inr (Or.inl g)⟩)) (fun g => br_c (fun k => hm_65 hp ho (Or.inl ⟨rfl, Or.inr (Or.inr k)⟩)) (fun k => hm_65 hp ho (Or.inr ⟨rfl, ?_, ?_⟩))))
  · rcases ho with ⟨t, _⟩ | ⟨t, _⟩
    · exact absurd t z
    · exact t
  · obtain ⟨j, hj, e⟩ := nI_of2 (M := 12) (n := 12) (by decide) g (Int32.not_lt.mp k)
    exact ⟨j, by omega, e⟩
theorem hm_26 {x0 x1 x2 x3 x4 : Int32} (hp : hm_put x0 x1 x4) : wL_lawOf_26 (fun r _ => r = 1) 10 144 x0 x1 x2 x3 x4 0 0 := by
  unfold wL_lawOf_26
  refine br_c (fun z => hm_43 hp (Or.inl ⟨rfl, Or.inl z⟩)) (fun z => br_c (fun g => hm_43 hp (Or.inl ⟨rfl, Or.inr g⟩)) (fun g => hm_43 hp (Or.inr ⟨rfl, ?_⟩)))
  obtain ⟨j, hj, e⟩ := nI_of2 (M := 15) (n := 15) (by decide) z (Int32.not_lt.mp g)
  exact ⟨j, by omega, e⟩
theorem hm_lawOf (x0 x1 x2 x3 : Int32) : wpL_lawOf (fun r _ => r = 1) 10 144 () x0 x1 x2 x3 := by
  unfold wpL_lawOf
  refine br_c (fun z => hm_26 (Or.inl ⟨rfl, Or.inl (Or.inl z)⟩)) (fun z => br_c (fun g => hm_26 (Or.inl ⟨rfl, Or.inl (Or.inr g)⟩)) (fun g => br_c (fun k => hm_26 (Or.inl ⟨rfl, Or.inr (Or.inl k)⟩)) (fun k => br_c (fun m => hm_26 (Or.inl ⟨rfl, Or.inr (Or.inr m)⟩)) (fun m => hm_26 (Or.inr ⟨rfl, ?_⟩)))))
  obtain ⟨w, hw, e⟩ := nI_of2 (M := 15) (n := 15) (by decide) z (Int32.not_lt.mp g)
  obtain ⟨n, hn, e'⟩ := nI_of2 (M := 255) (n := 255) (by decide) k (Int32.not_lt.mp m)
  exact ⟨w, n, by omega, by omega, e, e'⟩
theorem hm_cell {post : Int32 → Prop} {L : Nat} {xs : Nat → Int32} {k : Nat} (hL : L ≤ 4) (hk : k < 4) (h : ∀ r, post r) : wpL_cellAt post L xs () (nI k) :=
  pk_le L k (fun _ => h _) (fun z => ⟨pk_in k L z, h _⟩)
theorem i_vc (xs : Nat → Int32) (L : Nat) (hL : L ≤ 4) : wpL_law (fun r => r = 1) L xs :=
  hm_cell (k := 0) hL (by omega) (fun r0 => hm_cell (k := 1) hL (by omega) (fun r1 => hm_cell (k := 2) hL (by omega) (fun r2 => hm_cell (k := 3) hL (by omega) (fun r3 => ⟨10, 144, by omega, by omega, hm_lawOf r0 r1 r2 r3⟩))))
end
