section
/-! ===== lN n to 2^64: shifts, and, or, masks, one bit ===== -/
theorem wb_tb (n : Nat) : (lN n).toBitVec = BitVec.ofNat 64 n := rfl
theorem wb_inj {a b : Int64} (h : a.toBitVec = b.toBitVec) : a = b := Int64.toBitVec_inj.mp h
theorem wb_tn {n : Nat} (h : n < 2 ^ 64) : (lN n).toBitVec.toNat = n := by rw [wb_tb, BitVec.toNat_ofNat, Nat.mod_eq_of_lt h]
theorem wb_of (x : Int64) : ∃ n, n < 2 ^ 64 ∧ x = lN n := ⟨x.toBitVec.toNat, x.toBitVec.isLt, wb_inj (by rw [wb_tb]; simp)⟩
theorem wb_of32 (x : Int32) : ∃ n, n < 2 ^ 32 ∧ x = nI n := ⟨x.toBitVec.toNat, x.toBitVec.isLt, Int32.toBitVec_inj.mp (by show _ = BitVec.ofNat 32 _; simp)⟩
theorem wb_c : ∀ k, k < 64 → ((nI k).toInt64 &&& 63) = lN k := by decide +kernel
theorem wb_cu : ∀ k, k < 64 → ((nI k).toInt64.toUInt64 &&& Int64.toUInt64 63) = UInt64.ofNat k := by decide +kernel
theorem wb_sm : ∀ k, k < 64 → (BitVec.ofNat 64 k).smod 64 = BitVec.ofNat 64 k := by decide +kernel
theorem wb_pw {a b : Nat} (h : a ≤ b) : 2 ^ b = 2 ^ a * 2 ^ (b - a) := by rw [← Nat.pow_add]; congr 1; omega
theorem wb_lt2 {a b : Nat} (h : a < b) : 2 ^ a < 2 ^ b := Nat.pow_lt_pow_right (by decide) h
theorem wb_mod (n : Nat) : lN n = lN (n % 2 ^ 64) := wb_inj (by rw [wb_tb, wb_tb]; apply BitVec.eq_of_toNat_eq; rw [BitVec.toNat_ofNat, BitVec.toNat_ofNat, Nat.mod_mod])
theorem wb_shr {n k : Nat} (hn : n < 2 ^ 64) (hk : k < 64) : ((lN n).toUInt64 >>> ((nI k).toInt64.toUInt64 &&& Int64.toUInt64 63)).toInt64 = lN (n / 2 ^ k) := by
  rw [wb_cu k hk]
  apply wb_inj
  apply BitVec.eq_of_toNat_eq
  show ((lN n).toUInt64 >>> UInt64.ofNat k).toNat = (BitVec.ofNat 64 _).toNat
  have h1 : (UInt64.ofNat k).toNat = k := by
    show (BitVec.ofNat 64 k).toNat = k
    rw [BitVec.toNat_ofNat, Nat.mod_eq_of_lt (by omega)]
  have h2 : (lN n).toUInt64.toNat = n := wb_tn hn
  rw [UInt64.toNat_shiftRight, h1, h2, Nat.mod_eq_of_lt hk, Nat.shiftRight_eq_div_pow, BitVec.toNat_ofNat, Nat.mod_eq_of_lt (Nat.lt_of_le_of_lt (Nat.div_le_self _ _) hn)]
theorem wb_shl (n : Nat) {k : Nat} (hk : k < 64) : lN n <<< ((nI k).toInt64 &&& 63) = lN (n * 2 ^ k) := by
  rw [wb_c k hk]
  apply wb_inj
  rw [Int64.toBitVec_shiftLeft, wb_tb, wb_tb, wb_tb, wb_sm k hk]
  apply BitVec.eq_of_toNat_eq
  rw [BitVec.shiftLeft_eq', BitVec.toNat_shiftLeft, BitVec.toNat_ofNat, BitVec.toNat_ofNat, BitVec.toNat_ofNat, Nat.mod_eq_of_lt (show k < 2 ^ 64 by omega), Nat.shiftLeft_eq, Nat.mul_mod, Nat.mod_mod, ← Nat.mul_mod]
theorem wb_and {a b : Nat} (ha : a < 2 ^ 64) (hb : b < 2 ^ 64) : lN a &&& lN b = lN (a &&& b) := by
  apply wb_inj
  rw [Int64.toBitVec_and, wb_tb, wb_tb, wb_tb]
  apply BitVec.eq_of_toNat_eq
  rw [BitVec.toNat_and, BitVec.toNat_ofNat, BitVec.toNat_ofNat, BitVec.toNat_ofNat, Nat.mod_eq_of_lt ha, Nat.mod_eq_of_lt hb, Nat.mod_eq_of_lt (Nat.and_lt_two_pow _ hb)]
theorem wb_or {a b : Nat} (ha : a < 2 ^ 64) (hb : b < 2 ^ 64) : lN a ||| lN b = lN (a ||| b) := by
  apply wb_inj
  rw [Int64.toBitVec_or, wb_tb, wb_tb, wb_tb]
  apply BitVec.eq_of_toNat_eq
  rw [BitVec.toNat_or, BitVec.toNat_ofNat, BitVec.toNat_ofNat, BitVec.toNat_ofNat, Nat.mod_eq_of_lt ha, Nat.mod_eq_of_lt hb, Nat.mod_eq_of_lt (Nat.or_lt_two_pow ha hb)]
theorem wb_mask {n k : Nat} (hn : n < 2 ^ 64) (hk : k < 64) : lN n &&& lN (2 ^ k - 1) = lN (n % 2 ^ k) := by
  rw [wb_and hn (by have := wb_lt2 hk; omega), Nat.and_two_pow_sub_one_eq_mod]
theorem wb_a1 {n : Nat} (hn : n < 2 ^ 64) : lN n &&& 1 = lN (n % 2) := wb_mask (k := 1) hn (by decide)
theorem wb_bit {n k : Nat} (hn : n < 2 ^ 64) (hk : k < 64) : ((lN n).toUInt64 >>> ((nI k).toInt64.toUInt64 &&& Int64.toUInt64 63)).toInt64 &&& 1 = lN (n / 2 ^ k % 2) := by
  rw [wb_shr hn hk, wb_a1 (Nat.lt_of_le_of_lt (Nat.div_le_self _ _) hn)]
end
section
/-! ===== the picture: a field's bounds, the words of bits, the count ===== -/
/-- the least value of a field -/
def cd_lo (f : Nat) : Nat := if f = 2 ∨ f = 3 then 1 else 0
/-- the greatest value of a field -/
def cd_hi (f : Nat) : Nat := if f = 0 then 59 else if f = 1 then 23 else if f = 2 then 31 else if f = 3 then 12 else 6
theorem cd_lo_le (f : Nat) : cd_lo f ≤ 1 := by
  unfold cd_lo
  split <;> omega
theorem cd_hi_le (f : Nat) : cd_hi f ≤ 59 := by
  unfold cd_hi
  repeat' split
  all_goals omega
/-- the word n holds just the values a, a + s, .. up to b that are below e -/
def cd_B (n a b s e : Nat) : Prop := ∀ j, j < 64 → (n / 2 ^ j % 2 = 1 ↔ (a ≤ j ∧ j ≤ b ∧ j < e ∧ (j - a) % s = 0))
theorem cd_tb (n j : Nat) : n / 2 ^ j % 2 = 1 ↔ n.testBit j = true := by
  rw [Nat.testBit_eq_decide_div_mod_eq, decide_eq_true_iff]
theorem cd_or (n k j : Nat) : (n ||| 2 ^ k) / 2 ^ j % 2 = 1 ↔ (n / 2 ^ j % 2 = 1 ∨ k = j) := by
  rw [cd_tb, cd_tb, Nat.testBit_or, Nat.testBit_two_pow, Bool.or_eq_true, decide_eq_true_iff]
theorem cd_or_lt {n k : Nat} (hn : n < 2 ^ 64) (hk : k < 64) : n ||| 2 ^ k < 2 ^ 64 :=
  Nat.or_lt_two_pow hn (wb_lt2 hk)
theorem cd_B0 (a b s : Nat) : cd_B 0 a b s a := by
  intro j _
  constructor
  · intro h
    rw [Nat.zero_div] at h
    exact absurd h (by decide)
  · intro h
    exact absurd h.2.2.1 (by omega)
theorem cd_md {k s t : Nat} (h : t < s) : (k * s + t) % s = t := by
  rw [Nat.add_comm, Nat.add_mul_mod_self_right, Nat.mod_eq_of_lt h]
theorem cd_Bs {n a b s k : Nat} (hs : 0 < s) (h : cd_B n a b s (a + k * s)) (hb : a + k * s ≤ b) : cd_B (n ||| 2 ^ (a + k * s)) a b s (a + (k + 1) * s) := by
  intro j hj
  rw [cd_or, h j hj, Nat.add_mul, Nat.one_mul]
  constructor
  · intro g
    rcases g with ⟨g1, g2, g3, g4⟩ | g
    · exact ⟨g1, g2, by omega, g4⟩
    · refine ⟨by omega, by omega, by omega, ?_⟩
      rw [show j - a = k * s + 0 by omega]
      exact cd_md hs
  · rintro ⟨g1, g2, g3, g4⟩
    by_cases g : j < a + k * s
    · exact Or.inl ⟨g1, g2, g, g4⟩
    · by_cases g5 : a + k * s = j
      · exact Or.inr g5
      · exfalso
        have t : (k * s + (j - a - k * s)) % s = j - a - k * s := cd_md (by omega)
        rw [show k * s + (j - a - k * s) = j - a by omega] at t
        omega
theorem cd_Bx {n a b s e : Nat} (h : cd_B n a b s e) (he : b < e) : cd_B n a b s 64 := by
  intro j hj
  rw [h j hj]
  constructor
  · rintro ⟨g1, g2, g3, g4⟩
    exact ⟨g1, g2, hj, g4⟩
  · rintro ⟨g1, g2, g3, g4⟩
    exact ⟨g1, g2, by omega, g4⟩
/-- how many of the lowest bits are set -/
def cd_cnt (n : Nat) : Nat → Nat
  | 0 => 0
  | k + 1 => cd_cnt n k + n / 2 ^ k % 2
theorem cd_cnt_le (n k : Nat) : cd_cnt n k ≤ k := by
  induction k with
  | zero => exact Nat.le_refl 0
  | succ k ih =>
    have h : n / 2 ^ k % 2 < 2 := Nat.mod_lt _ (by decide)
    show cd_cnt n k + n / 2 ^ k % 2 ≤ k + 1
    omega
theorem cd_dv {d s : Nat} (hs : 0 < s) : (d + 1) / s = d / s + (if (d + 1) % s = 0 then 1 else 0) := by
  rw [Nat.succ_div]
  congr 1
  by_cases h : s ∣ d + 1
  · rw [if_pos h, if_pos (Nat.mod_eq_zero_of_dvd h)]
  · rw [if_neg h, if_neg (fun g => h (Nat.dvd_of_mod_eq_zero g))]
theorem cd_cnt_lo {n a b s : Nat} (h : cd_B n a b s 64) (k : Nat) (hk : k ≤ a) (h64 : k ≤ 64) : cd_cnt n k = 0 := by
  induction k with
  | zero => rfl
  | succ k ih =>
    show cd_cnt n k + n / 2 ^ k % 2 = 0
    rw [ih (by omega) (by omega)]
    have g : ¬ n / 2 ^ k % 2 = 1 := fun g => absurd ((h k (by omega)).mp g).1 (by omega)
    have l : n / 2 ^ k % 2 < 2 := Nat.mod_lt _ (by decide)
    omega
theorem cd_cnt_in {n a b s : Nat} (hs : 0 < s) (h : cd_B n a b s 64) (d : Nat) (hd : a + d ≤ b) (h64 : a + d < 64) : cd_cnt n (a + d + 1) = d / s + 1 := by
  induction d with
  | zero =>
    show cd_cnt n a + n / 2 ^ a % 2 = 0 / s + 1
    rw [cd_cnt_lo h a (by omega) (by omega), (h a (by omega)).mpr ⟨by omega, by omega, by omega, by rw [Nat.sub_self, Nat.zero_mod]⟩, Nat.zero_div]
  | succ d ih =>
    show cd_cnt n (a + d + 1) + n / 2 ^ (a + d + 1) % 2 = (d + 1) / s + 1
    rw [ih (by omega) (by omega), cd_dv hs]
    have e := h (a + d + 1) (by omega)
    rw [show a + d + 1 - a = d + 1 by omega] at e
    have l : n / 2 ^ (a + d + 1) % 2 < 2 := Nat.mod_lt _ (by decide)
    by_cases g : (d + 1) % s = 0
    · rw [if_pos g, e.mpr ⟨by omega, by omega, by omega, g⟩]
    · rw [if_neg g]
      have z : ¬ n / 2 ^ (a + d + 1) % 2 = 1 := fun z => g (e.mp z).2.2.2
      omega
theorem cd_cnt_hi {n a b s c : Nat} (h : cd_B n a b s 64) (d : Nat) (h64 : b + 1 + d ≤ 64) (hc : cd_cnt n (b + 1) = c) : cd_cnt n (b + 1 + d) = c := by
  induction d with
  | zero => exact hc
  | succ d ih =>
    show cd_cnt n (b + 1 + d) + n / 2 ^ (b + 1 + d) % 2 = c
    rw [ih (by omega)]
    have g : ¬ n / 2 ^ (b + 1 + d) % 2 = 1 := fun g => absurd ((h (b + 1 + d) (by omega)).mp g).2.1 (by omega)
    have l : n / 2 ^ (b + 1 + d) % 2 < 2 := Nat.mod_lt _ (by decide)
    omega
theorem cd_cnt_60 {n a b s : Nat} (hs : 0 < s) (h : cd_B n a b s 64) (hab : a ≤ b) (hb : b < 60) : cd_cnt n 60 = (b - a) / s + 1 := by
  have t := cd_cnt_in hs h (b - a) (by omega) (by omega)
  rw [show a + (b - a) + 1 = b + 1 by omega] at t
  have u := cd_cnt_hi h (59 - b) (by omega) t
  rw [show b + 1 + (59 - b) = 60 by omega] at u
  exact u
/-! ===== ints against naturals ===== -/
theorem cd_ltI {x : Int32} {a : Nat} (ha : a < 2 ^ 31) : x < nI a ↔ x.toInt < (a : Int) := by
  rw [Int32.lt_iff_toInt_lt, nI_toInt ha]
theorem cd_gtI {x : Int32} {a : Nat} (ha : a < 2 ^ 31) : nI a < x ↔ (a : Int) < x.toInt := by
  rw [Int32.lt_iff_toInt_lt, nI_toInt ha]
theorem cd_leI {x : Int32} {a : Nat} (ha : a < 2 ^ 31) : x ≤ nI a ↔ x.toInt ≤ (a : Int) := by
  rw [Int32.le_iff_toInt_le, nI_toInt ha]
theorem cd_of {x : Int32} {a b : Nat} (ha : a < 2 ^ 31) (hb : b < 2 ^ 31) (h1 : ¬ x < nI a) (h2 : ¬ nI b < x) : ∃ j : Nat, a ≤ j ∧ j ≤ b ∧ x = nI j := by
  rw [cd_ltI ha] at h1
  rw [cd_gtI hb] at h2
  have h0 : ¬ x < 0 := by
    have t : (0 : Int32) = nI 0 := rfl
    rw [t, cd_ltI (by decide)]
    omega
  obtain ⟨j, hj, rfl⟩ := nI_of h0
  rw [nI_toInt hj] at h1 h2
  exact ⟨j, by omega, by omega, rfl⟩
theorem cd_at (r f : Nat) : 5 * nI r + nI f = nI (5 * r + f) := by
  rw [show (5 : Int32) = nI 5 from rfl, pk_mul, nI_add]
end
section
/-! ===== the methods ===== -/
/-- the tables of bounds hold what the maker laid there -/
def cd_T (a3 a4 : Nat → Int32) : Prop := ∀ f, f < 5 → a3 f = nI (cd_lo f) ∧ a4 f = nI (cd_hi f)
theorem cd_T_init : cd_T (upd (upd (fun _ => 0) 2 1) 3 1) (upd (upd (upd (upd (upd (fun _ => 0) 0 59) 1 23) 2 31) 3 12) 4 6) := by
  intro f hf
  match f, hf with
  | 0, _ => exact ⟨rfl, rfl⟩
  | 1, _ => exact ⟨rfl, rfl⟩
  | 2, _ => exact ⟨rfl, rfl⟩
  | 3, _ => exact ⟨rfl, rfl⟩
  | 4, _ => exact ⟨rfl, rfl⟩
  | n + 5, h => exact absurd h (by omega)
theorem cd_fill1 {s : Nat → Int32} {i k : Nat} (hk : k = i) (h : ∀ j, j < i → s j = 1) : ∀ j, j < i + 1 → upd s k 1 j = 1 := by
  intro j hj
  rw [hk]
  by_cases e : j = i
  · rw [e, pk_us]
  · rw [pk_un e]
    exact h j (by omega)
theorem cd_init36 {post : St2 → Prop} {mc ms kc ks : Nat} {y m d : Int32} {a1 : Nat → Int64} {a2 : Nat → Int32}
    (H : ∀ a2' a3 a4 : Nat → Int32, (∀ k, k < 20 → a2' k = 1) → cd_T a3 a4 → post (y, m, d, a1, a2', a3, a4)) :
    ∃ n, wX_init_36 post mc ms kc ks y m d n 0 a1 a2 (fun _ => 0) (fun _ => 0) :=
  pk_loop (fun n i s => wX_init_36 post mc ms kc ks y m d n (nI i) a1 s (fun _ => 0) (fun _ => 0)) (fun i s => ∀ j, j < i → s j = 1) 20 0 a2 (by omega) (fun j hj => absurd hj (by omega))
    (fun n s h => pk_le 20 20 (fun _ => nm_e (nm_e (nm_e (nm_e (nm_e (nm_e (nm_e (H s _ _ h cd_T_init)))))))) (fun z => absurd z (by omega)))
    (fun n i s hi h hw => pk_le 20 i (fun z => absurd z (by omega)) (fun _ => ⟨pk_in i 20 hi, nm_e (nm_r (nI_1 i) (hw _ (cd_fill1 (nI_clamp (by omega)) h)))⟩))
theorem cd_init {post : St2 → Prop} {y m d : Int32}
    (H : ∀ (a1 : Nat → Int64) (a2 a3 a4 : Nat → Int32), (∀ k, k < 20 → a2 k = 1) → cd_T a3 a4 → post (y, m, d, a1, a2, a3, a4)) :
    wpX_init post 4 50 (y, m, d) := by
  unfold wpX_init
  exact ⟨by omega, by omega, by omega, by omega, by omega, by omega, by omega, by omega, cd_init36 (H _)⟩
theorem cd_rule1 {post : Int32 → Prop} {r : Nat} (hr : r < 4) (H : post 1) : wpX_isRule post () (nI r) :=
  br_f (nI_pos (by omega)) (br_f (nI_ge (b := 4) hr (by decide)) H)
theorem cd_ruleN {post : Int32 → Prop} {p : Int32} (h : p < 0) (H : post 0) : wpX_isRule post () p := br_t h H
theorem cd_rule0 {post : Int32 → Prop} {r : Nat} (hr : 4 ≤ r) (h : r < 2 ^ 31) (H : post 0) : wpX_isRule post () (nI r) :=
  br_f (nI_pos h) (br_t (nI_le (a := 4) hr h) H)
theorem cd_field1 {post : Int32 → Prop} {f : Nat} (hf : f < 5) (H : post 1) : wpX_isField post () (nI f) :=
  br_f (nI_pos (by omega)) (br_f (nI_ge (b := 5) hf (by decide)) H)
theorem cd_field0 {post : Int32 → Prop} {f : Nat} (hf : 5 ≤ f) (h : f < 2 ^ 31) (H : post 0) : wpX_isField post () (nI f) :=
  br_f (nI_pos h) (br_t (nI_le (a := 5) hf h) H)
theorem cd_value {post : Int32 → Prop} {y m d : Int32} {a1 : Nat → Int64} {a2 a3 a4 : Nat → Int32} {f : Nat} {v : Int32} (hf : f < 5) (hT : cd_T a3 a4)
    (H1 : ¬ v < nI (cd_lo f) → ¬ nI (cd_hi f) < v → post 1) (H0 : (v < nI (cd_lo f) ∨ nI (cd_hi f) < v) → post 0) :
    wpX_isValue post (y, m, d, a1, a2, a3, a4) (nI f) v := by
  unfold wpX_isValue
  dsimp only
  rw [nI_clamp (show f < 2 ^ 31 by omega), (hT f hf).1, (hT f hf).2]
  exact ⟨pk_in f 5 hf, br_c (fun h => H0 (Or.inl h)) (fun h => ⟨pk_in f 5 hf, br_c (fun h2 => H0 (Or.inr h2)) (fun h2 => H1 h h2)⟩)⟩
/-- the count of a word's bits -/
theorem cd_178 {post : Int32 → St2 → Prop} {y m d : Int32} {a1 : Nat → Int64} {a2 a3 a4 : Nat → Int32} {c n : Nat} (hc : c < 20) (hn : n < 2 ^ 64) (h1 : a1 c = lN n)
    (H : post (nI (cd_cnt n 60)) (y, m, d, a1, a2, a3, a4)) : ∃ fu, wX_allow_178 post (nI c) y m d a1 a2 a3 a4 fu 0 0 :=
  pk_loop (σ := Unit) (fun n' i _ => wX_allow_178 post (nI c) y m d a1 a2 a3 a4 n' (nI (cd_cnt n i)) (nI i)) (fun _ _ => True) 60 0 () (by omega) trivial
    (fun _ _ _ => pk_le 60 60 (fun _ => H) (fun z => absurd z (by omega)))
    (fun _ i _ hi _ hw => pk_le 60 i (fun z => absurd z (by omega)) (fun _ => ⟨pk_in c 20 hc,
      nm_r (show nI (cd_cnt n i) + (((((a1 (nI c).toNatClampNeg).toUInt64 >>> ((nI i).toInt64.toUInt64 &&& Int64.toUInt64 63)).toInt64) &&& 1).toInt32) = nI (cd_cnt n (i + 1)) by
        rw [nI_clamp (show c < 2 ^ 31 by omega), h1, wb_bit hn (show i < 64 by omega), lN_i, nI_add]
        rfl) (nm_r (nI_1 i) (hw () trivial))⟩))
/-- the word is filled from a by steps of s up to b -/
theorem cd_137 {post : Int32 → St2 → Prop} {y m d : Int32} {a1 : Nat → Int64} {a2 a3 a4 : Nat → Int32} {c a b s : Nat} (hc : c < 20) (hb : b < 60) (hab : a ≤ b) (hs : 0 < s) (hs2 : s < 60) (h1 : a1 c = lN 0)
    (H : ∀ (a1' : Nat → Int64) (n : Nat), n < 2 ^ 64 → a1' c = lN n → cd_B n a b s 64 → post (nI ((b - a) / s + 1)) (y, m, d, a1', a2, a3, a4)) :
    ∃ fu, wX_allow_137 post (nI s) (nI b) (nI c) y m d fu (nI a) a1 a2 a3 a4 := by
  have key : ∃ fu, wX_allow_137 post (nI s) (nI b) (nI c) y m d fu (nI (a + 0 * s)) a1 a2 a3 a4 :=
    loop_m (σ := Nat × (Nat → Int64)) (fun fu st => wX_allow_137 post (nI s) (nI b) (nI c) y m d fu (nI (a + st.1 * s)) st.2 a2 a3 a4)
      (fun st => a + st.1 * s < 120 ∧ ∃ n, n < 2 ^ 64 ∧ st.2 c = lN n ∧ cd_B n a b s (a + st.1 * s)) (fun st => b + 1 - (a + st.1 * s))
      (by
        rintro fu ⟨k, w⟩ ⟨hk, n, hn, hw, hB⟩ IH
        have hk : a + k * s < 120 := hk
        have hw : w c = lN n := hw
        have hB : cd_B n a b s (a + k * s) := hB
        show wX_allow_137 post (nI s) (nI b) (nI c) y m d (fu + 1) (nI (a + k * s)) w a2 a3 a4
        refine pk_lt b (a + k * s) (fun z => ?_) (fun z => ?_)
        · have hB' := cd_Bx hB z
          refine cd_178 hc hn hw ?_
          rw [cd_cnt_60 hs hB' hab hb]
          exact H w n hn hw hB'
        · have hk' : a + (k + 1) * s = a + k * s + s := by
            rw [Nat.add_mul]
            omega
          have nx : wX_allow_137 post (nI s) (nI b) (nI c) y m d fu (nI (a + (k + 1) * s)) (vp_updL w c (lN (n ||| 2 ^ (a + k * s)))) a2 a3 a4 :=
            IH (k + 1, vp_updL w c (lN (n ||| 2 ^ (a + k * s)))) ⟨by show a + (k + 1) * s < 120; omega, n ||| 2 ^ (a + k * s), cd_or_lt hn (by omega), pk_uLs, cd_Bs hs hB z⟩ (by show b + 1 - (a + (k + 1) * s) < b + 1 - (a + k * s); omega)
          refine ⟨pk_in c 20 hc, pk_in c 20 hc, nm_r (e' := vp_updL w c (lN (n ||| 2 ^ (a + k * s)))) ?_ (nm_r (e' := nI (a + (k + 1) * s)) ?_ nx)⟩
          · rw [nI_clamp (show c < 2 ^ 31 by omega), hw, show (1 : Int64) = lN 1 from rfl, wb_shl 1 (show a + k * s < 64 by omega), Nat.one_mul, wb_or hn (wb_lt2 (by omega))]
          · rw [nI_add, hk'])
      (0, a1) ⟨by show a + 0 * s < 120; omega, 0, by decide, h1, by
        show cd_B 0 a b s (a + 0 * s)
        rw [Nat.zero_mul]
        exact cd_B0 a b s⟩
  rw [Nat.zero_mul] at key
  exact key
/-- the span is a range of the field's -/
def cd_R (f q : Nat) : Prop := cd_lo f ≤ q / 64 ∧ q % 64 ≤ cd_hi f ∧ q / 64 ≤ q % 64
theorem cd_sh3 {w : Nat} (h : w < 2 ^ 31) : nI w >>> ((3 : Int32) &&& 31) = nI (w / 8) := pk_shrN h _ 3 (by decide)
theorem cd_an7 {w : Nat} (h : w < 2 ^ 31) : nI w &&& 7 = nI (w % 8) := pk_andN (by omega) 3 (by decide)
theorem cd_sh6 {w : Nat} (h : w < 2 ^ 31) : nI w >>> ((6 : Int32) &&& 31) = nI (w / 64) := pk_shrN h _ 6 (by decide)
theorem cd_an63 {w : Nat} (h : w < 2 ^ 31) : nI w &&& 63 = nI (w % 64) := pk_andN (by omega) 6 (by decide)
theorem cd_allowN {post : Int32 → St2 → Prop} {y m d : Int32} {a1 : Nat → Int64} {a2 a3 a4 : Nat → Int32} {p0 p1 p2 : Int32} (h : p0 < 0 ∨ nI 32 ≤ p0)
    (H : post (-1) (y, m, d, a1, a2, a3, a4)) : wpX_allow post (y, m, d, a1, a2, a3, a4) p0 p1 p2 := by
  unfold wpX_allow
  intro x4 e4 x5 e5
  by_cases h0 : p0 < 0
  · exact br_t h0 H
  · refine br_f h0 ?_
    rcases h with h | h
    · exact absurd h h0
    · obtain ⟨w, hw, rfl⟩ := nI_of h0
      rw [nI_leI (by decide) hw] at h
      rw [cd_sh3 hw] at e4
      subst e4
      exact cd_rule0 (by omega) (by omega) (br_t rfl H)
theorem cd_allowU {post : Int32 → St2 → Prop} {y m d : Int32} {a1 : Nat → Int64} {a2 a3 a4 : Nat → Int32} {w : Nat} {p1 p2 : Int32} (hw : w < 32) (hf : 5 ≤ w % 8)
    (H : post (-2) (y, m, d, a1, a2, a3, a4)) : wpX_allow post (y, m, d, a1, a2, a3, a4) (nI w) p1 p2 := by
  unfold wpX_allow
  intro x4 e4 x5 e5
  rw [cd_sh3 (by omega)] at e4
  rw [cd_an7 (by omega)] at e5
  subst e4
  subst e5
  exact br_f (nI_pos (by omega)) (cd_rule1 (by omega) (br_f (by decide) (cd_field0 hf (by omega) (br_t rfl H))))
theorem cd_allow3 {post : Int32 → St2 → Prop} {y m d : Int32} {a1 : Nat → Int64} {a2 a3 a4 : Nat → Int32} {w : Nat} {p1 p2 : Int32} (hw : w < 32) (hf : w % 8 < 5) (hp : p1 < 0)
    (H : post (-3) (y, m, d, a1, a2, a3, a4)) : wpX_allow post (y, m, d, a1, a2, a3, a4) (nI w) p1 p2 := by
  unfold wpX_allow
  intro x4 e4 x5 e5
  rw [cd_sh3 (by omega)] at e4
  rw [cd_an7 (by omega)] at e5
  subst e4
  subst e5
  refine br_f (nI_pos (by omega)) (cd_rule1 (by omega) (br_f (by decide) (cd_field1 hf (br_f (by decide) ?_))))
  intro x6 e6 x7 e7
  exact br_t hp H
theorem cd_allowQ {post : Int32 → St2 → Prop} {y m d : Int32} {a1 : Nat → Int64} {a2 a3 a4 : Nat → Int32} {w q : Nat} {p2 : Int32} (hw : w < 32) (hf : w % 8 < 5) (hT : cd_T a3 a4) (hq : q < 2 ^ 31) (h2 : a2 (5 * (w / 8) + w % 8) = 1)
    (H3 : ¬ cd_R (w % 8) q → post (-3) (y, m, d, a1, a2, a3, a4))
    (H4 : cd_R (w % 8) q → (p2 < 1 ∨ 59 < p2) → post (-4) (y, m, d, a1, a2, a3, a4))
    (H5 : cd_R (w % 8) q → ∀ s : Nat, 1 ≤ s → s ≤ 59 → p2 = nI s → ∀ (a1' : Nat → Int64) (n : Nat), n < 2 ^ 64 → a1' (5 * (w / 8) + w % 8) = lN n → cd_B n (q / 64) (q % 64) s 64 →
      post (nI ((q % 64 - q / 64) / s + 1)) (y, m, d, a1', upd a2 (5 * (w / 8) + w % 8) 0, a3, a4)) :
    wpX_allow post (y, m, d, a1, a2, a3, a4) (nI w) (nI q) p2 := by
  have hlo := cd_lo_le (w % 8)
  have hhi := cd_hi_le (w % 8)
  have hc : 5 * (w / 8) + w % 8 < 20 := by omega
  unfold wpX_allow
  intro x4 e4 x5 e5
  rw [cd_sh3 (by omega)] at e4
  rw [cd_an7 (by omega)] at e5
  subst e4
  subst e5
  refine br_f (nI_pos (by omega)) (cd_rule1 (by omega) (br_f (by decide) (cd_field1 hf (br_f (by decide) ?_))))
  intro x6 e6 x7 e7
  rw [cd_sh6 hq] at e6
  rw [cd_an63 hq] at e7
  subst e6
  subst e7
  refine br_f (nI_pos hq) (cd_value hf hT (fun g1 g2 => br_f (by decide) ?_) (fun g => br_t rfl (H3 (fun R => ?_))))
  · refine cd_value hf hT (fun g3 g4 => br_f (by decide) ?_) (fun g => br_t rfl (H3 (fun R => ?_)))
    · rw [nI_ltI (by omega) (by omega)] at g1 g4
      refine pk_le (q / 64) (q % 64) (fun z => ?_) (fun z => H3 (fun R => absurd R.2.2 (by omega)))
      have R : cd_R (w % 8) q := ⟨by omega, by omega, z⟩
      refine br_c (fun k => H4 R (Or.inl k)) (fun k1 => br_c (fun k2 => ?_) (fun k => H4 R (Or.inr ?_)))
      · obtain ⟨s, s1, s2, rfl⟩ := cd_of (x := p2) (a := 1) (b := 59) (by decide) (by decide) k1 (by rw [cd_gtI (by decide)]; have t := (cd_leI (x := p2) (a := 59) (by decide)).mp k2; omega)
        refine nm_r (cd_at _ _) ?_
        have cl : (nI (5 * (w / 8) + w % 8)).toNatClampNeg = 5 * (w / 8) + w % 8 := nI_clamp (by omega)
        refine ⟨pk_in _ 20 hc, br_f (by rw [cl, h2]; decide) ⟨pk_in _ 20 hc, nm_r (by rw [cl]) ⟨pk_in _ 20 hc, nm_r (by rw [cl]) ?_⟩⟩⟩
        exact cd_137 hc (by omega) z (by omega) (by omega) pk_uLs (fun a1' n hn ha hB => H5 R s s1 s2 rfl a1' n hn ha hB)
      · have t : ¬ p2.toInt ≤ ((59 : Nat) : Int) := fun g => k ((cd_leI (x := p2) (a := 59) (by decide)).mpr g)
        refine (cd_gtI (x := p2) (a := 59) (by decide)).mpr ?_
        omega
    · rw [nI_ltI (by omega) (by omega), nI_ltI (by omega) (by omega)] at g
      obtain ⟨r1, r2, r3⟩ := R
      omega
  · rw [nI_ltI (by omega) (by omega), nI_ltI (by omega) (by omega)] at g
    obtain ⟨r1, r2, r3⟩ := R
    omega
/-! allowed and fill -/
theorem cd_allowedN {post : Int32 → Prop} {y m d : Int32} {a1 : Nat → Int64} {a2 a3 a4 : Nat → Int32} {p0 p1 v : Int32} (h : p0 < 0) (H : post (-1)) : wpX_allowed post (y, m, d, a1, a2, a3, a4) p0 p1 v := by
  unfold wpX_allowed
  exact cd_ruleN h (br_t rfl H)
theorem cd_allowedU {post : Int32 → Prop} {y m d : Int32} {a1 : Nat → Int64} {a2 a3 a4 : Nat → Int32} {r f : Nat} {v : Int32} (hr : r < 4) (hf : 5 ≤ f) (hf2 : f < 8) (H : post (-2)) : wpX_allowed post (y, m, d, a1, a2, a3, a4) (nI r) (nI f) v := by
  unfold wpX_allowed
  exact cd_rule1 hr (br_f (by decide) (cd_field0 hf (by omega) (br_t rfl H)))
theorem cd_allowedK {post : Int32 → Prop} {y m d : Int32} {a1 : Nat → Int64} {a2 a3 a4 : Nat → Int32} {r f : Nat} {v : Int32} (hr : r < 4) (hf : f < 5) (hT : cd_T a3 a4)
    (HO : (v < nI (cd_lo f) ∨ nI (cd_hi f) < v) → post 0)
    (HF : ¬ v < nI (cd_lo f) → ¬ nI (cd_hi f) < v → ¬ a2 (5 * r + f) = 0 → post 1)
    (HB : ∀ j : Nat, cd_lo f ≤ j → j ≤ cd_hi f → v = nI j → a2 (5 * r + f) = 0 → ∃ n, n < 2 ^ 64 ∧ a1 (5 * r + f) = lN n ∧ (n / 2 ^ j % 2 = 1 → post 1) ∧ (¬ n / 2 ^ j % 2 = 1 → post 0)) :
    wpX_allowed post (y, m, d, a1, a2, a3, a4) (nI r) (nI f) v := by
  have hlo := cd_lo_le f
  have hhi := cd_hi_le f
  have hc : 5 * r + f < 20 := by omega
  have cl : (nI (5 * r + f)).toNatClampNeg = 5 * r + f := nI_clamp (by omega)
  unfold wpX_allowed
  refine cd_rule1 hr (br_f (by decide) (cd_field1 hf (br_f (by decide) ?_)))
  unfold wpX_isAllowed
  refine nm_r (cd_at r f) (cd_value hf hT (fun g1 g2 => br_f (by decide) ⟨pk_in _ 20 hc, ?_⟩) (fun g => br_t rfl (br_t rfl (HO g))))
  rw [cl]
  refine br_c (fun h => ⟨pk_in _ 20 hc, ?_⟩) (fun h => br_f (by decide) (HF g1 g2 h))
  obtain ⟨j, j1, j2, e⟩ := cd_of (by omega) (by omega) g1 g2
  obtain ⟨n, hn, e1, P1, P0⟩ := HB j j1 j2 e h
  rw [e, e1, wb_bit hn (show j < 64 by omega)]
  have l : n / 2 ^ j % 2 < 2 := Nat.mod_lt _ (by decide)
  by_cases z : n / 2 ^ j % 2 = 1
  · rw [z]
    exact br_t rfl (br_f (by decide) (P1 z))
  · rw [show n / 2 ^ j % 2 = 0 by omega]
    exact br_f (by decide) (br_t rfl (P0 z))
theorem cd_fillN {post : Int32 → St2 → Prop} {y m d : Int32} {a1 : Nat → Int64} {a2 a3 a4 : Nat → Int32} {p0 p1 : Int32} (h : p0 < 0) (H : post (-1) (y, m, d, a1, a2, a3, a4)) : wpX_fill post (y, m, d, a1, a2, a3, a4) p0 p1 := by
  unfold wpX_fill
  exact cd_ruleN h (br_t rfl H)
theorem cd_fillU {post : Int32 → St2 → Prop} {y m d : Int32} {a1 : Nat → Int64} {a2 a3 a4 : Nat → Int32} {r f : Nat} (hr : r < 4) (hf : 5 ≤ f) (hf2 : f < 8) (H : post (-2) (y, m, d, a1, a2, a3, a4)) : wpX_fill post (y, m, d, a1, a2, a3, a4) (nI r) (nI f) := by
  unfold wpX_fill
  exact cd_rule1 hr (br_f (by decide) (cd_field0 hf (by omega) (br_t rfl H)))
theorem cd_fillK {post : Int32 → St2 → Prop} {y m d : Int32} {a1 : Nat → Int64} {a2 a3 a4 : Nat → Int32} {r f : Nat} (hr : r < 4) (hf : f < 5)
    (H1 : ¬ a2 (5 * r + f) = 0 → post 1 (y, m, d, a1, upd a2 (5 * r + f) 1, a3, a4))
    (H0 : a2 (5 * r + f) = 0 → post 0 (y, m, d, a1, upd a2 (5 * r + f) 1, a3, a4)) :
    wpX_fill post (y, m, d, a1, a2, a3, a4) (nI r) (nI f) := by
  have hc : 5 * r + f < 20 := by omega
  have cl : (nI (5 * r + f)).toNatClampNeg = 5 * r + f := nI_clamp (by omega)
  unfold wpX_fill
  refine cd_rule1 hr (br_f (by decide) (cd_field1 hf (br_f (by decide) ?_)))
  unfold wX_fill_37
  rw [cd_at, cl]
  exact ⟨pk_in _ 20 hc, br_c (fun h => ⟨pk_in _ 20 hc, nm_e (H0 h)⟩) (fun h => ⟨pk_in _ 20 hc, nm_e (H1 h)⟩)⟩
end
section
/-! ===== the law: a rule or a field that isn't known ===== -/
section
variable {post : Int32 → St0 → Prop} {mc ms kc ks : Nat} {x0 x1 x2 x3 x4 x5 x6 x7 x8 x9 x10 x11 x12 x13 x15 x17 x18 e z z0 : Int32} {y m d : Int32} {a1 : Nat → Int64} {a2 a3 a4 : Nat → Int32}
/-- both calls answer e and leave the object as it is -/
def cd_N (x3 x5 x6 e : Int32) (u : St2) : Prop := (∀ P : Int32 → Prop, P e → wpX_allowed P u x5 x6 x3) ∧ (∀ P : Int32 → St2 → Prop, P e u → wpX_fill P u x5 x6)
theorem cd_448N (H : post 1 ()) (h7 : x7 = 0) (hN : cd_N x3 x5 x6 e (y, m, d, a1, a2, a3, a4)) : wL_lawOf_448 post mc ms x3 x5 x6 x7 x8 x9 z z kc ks y m d a1 a2 a3 a4 := by
  unfold wL_lawOf_448
  exact br_t rfl (hN.1 _ (hN.2 _ (br_t h7 (br_t rfl H))))
theorem cd_401N (H : post 1 ()) (h7 : x7 = 0) (hx : (x4 = 0 ∧ e = -1) ∨ (¬ x4 = 0 ∧ e = -2)) (hN : cd_N x3 x5 x6 e (y, m, d, a1, a2, a3, a4)) : wL_lawOf_401 post mc ms x3 x4 x5 x6 x7 x8 x9 x13 z z kc ks y m d a1 a2 a3 a4 := by
  unfold wL_lawOf_401
  refine br_t rfl (hN.2 _ ?_)
  rcases hx with ⟨h4, rfl⟩ | ⟨h4, rfl⟩
  · exact br_t h4 (cd_448N H h7 hN)
  · exact br_f h4 (br_t h7 (cd_448N H h7 hN))
theorem cd_370N (H : post 1 ()) (h7 : x7 = 0) (hx : (x4 = 0 ∧ e = -1) ∨ (¬ x4 = 0 ∧ e = -2)) (hN : cd_N x3 x5 x6 e (y, m, d, a1, a2, a3, a4)) : wL_lawOf_370 post mc ms x3 x4 x5 x6 x7 x8 x9 x13 e x18 kc ks y m d a1 a2 a3 a4 := by
  unfold wL_lawOf_370
  have hx' := hx
  rcases hx with ⟨h4, rfl⟩ | ⟨h4, rfl⟩
  · exact br_t h4 (cd_401N H h7 hx' hN)
  · exact br_f h4 (br_t h7 (cd_401N H h7 hx' hN))
theorem cd_335N (H : post 1 ()) (h7 : x7 = 0) (hx : (x4 = 0 ∧ e = -1) ∨ (¬ x4 = 0 ∧ e = -2)) (hN : cd_N x3 x5 x6 e (y, m, d, a1, a2, a3, a4)) : wL_lawOf_335 post mc ms x2 x3 x4 x5 x6 x7 x8 x9 x10 x11 0 e z0 kc ks y m d a1 a2 a3 a4 := by
  unfold wL_lawOf_335
  exact br_t rfl (cd_370N H h7 hx hN)
theorem cd_301N (H : post 1 ()) (h7 : x7 = 0) (hx : (x4 = 0 ∧ e = -1) ∨ (¬ x4 = 0 ∧ e = -2)) (hN : cd_N x3 x5 x6 e (y, m, d, a1, a2, a3, a4)) : wL_lawOf_301 post mc ms x2 x3 x4 x5 x6 x7 x8 x9 x10 x11 0 z z kc ks y m d a1 a2 a3 a4 := by
  unfold wL_lawOf_301
  unfold wL_lawOf_334
  exact br_t rfl (hN.1 _ (br_c (fun _ => cd_335N H h7 hx hN) (fun _ => br_c (fun _ => cd_335N H h7 hx hN) (fun _ => cd_335N H h7 hx hN))))
theorem cd_256N (H : post 1 ()) (h7 : x7 = 0) (hx : (x4 = 0 ∧ e = -1) ∨ (¬ x4 = 0 ∧ e = -2)) (hN : cd_N x3 x5 x6 e (y, m, d, a1, a2, a3, a4)) : wL_lawOf_256 post mc ms x2 x3 x4 x5 x6 x7 x8 x9 x10 x11 x12 0 e z0 kc ks y m d a1 a2 a3 a4 := by
  unfold wL_lawOf_256
  have hx' := hx
  rcases hx with ⟨h4, rfl⟩ | ⟨h4, rfl⟩
  · exact br_t h4 (cd_301N H h7 hx' hN)
  · exact br_f h4 (br_t h7 (cd_301N H h7 hx' hN))
theorem cd_217N (H : post 1 ()) (h7 : x7 = 0) (hx : (x4 = 0 ∧ e = -1) ∨ (¬ x4 = 0 ∧ e = -2))
    (hA : ∀ (P : Int32 → St2 → Prop) (y m d : Int32) (a1 : Nat → Int64) (a2 a3 a4 : Nat → Int32), P e (y, m, d, a1, a2, a3, a4) → wpX_allow P (y, m, d, a1, a2, a3, a4) x0 x1 x2)
    (hN : ∀ (y m d : Int32) (a1 : Nat → Int64) (a2 a3 a4 : Nat → Int32), cd_N x3 x5 x6 e (y, m, d, a1, a2, a3, a4)) :
    wL_lawOf_217 post 42 672 x0 x1 x2 x3 x4 x5 x6 x7 x8 x9 x10 x11 x12 0 0 0 := by
  unfold wL_lawOf_217
  exact ⟨by omega, by omega, 4, 50, by omega, by omega, cd_init (fun a1 a2 a3 a4 _ _ => hA _ _ _ _ _ _ _ _ (br_t rfl (cd_256N H h7 hx (hN _ _ _ _ _ _ _))))⟩
/-! ===== the law: the front ===== -/
theorem cd_82 {f : Nat} (hf : f < 8) (h : wL_lawOf_129 post mc ms x0 x1 x2 x3 x4 x5 (nI f) x7 z0 (nI (cd_hi f)) kc ks) : wL_lawOf_82 post mc ms x0 x1 x2 x3 x4 x5 (nI f) x7 z0 kc ks := by
  unfold wL_lawOf_82
  refine pk_eq f 0 (fun g => ?_) (fun g0 => pk_eq f 1 (fun g => ?_) (fun g1 => pk_eq f 2 (fun g => ?_) (fun g2 => pk_eq f 3 (fun g => ?_) (fun g3 => ?_))))
  · subst g
    exact h
  · subst g
    exact h
  · subst g
    exact h
  · subst g
    exact h
  · have t : cd_hi f = 6 := by
      unfold cd_hi
      rw [if_neg g0, if_neg g1, if_neg g2, if_neg g3]
    rw [t] at h
    exact h
theorem cd_63 {f : Nat} (hf : f < 8) (h : wL_lawOf_129 post mc ms x0 x1 x2 x3 x4 x5 (nI f) x7 (nI (cd_lo f)) (nI (cd_hi f)) kc ks) : wL_lawOf_63 post mc ms x0 x1 x2 x3 x4 x5 (nI f) x7 kc ks := by
  unfold wL_lawOf_63
  unfold wL_lawOf_77
  refine pk_eq f 2 (fun g => ?_) (fun g2 => pk_eq f 3 (fun g => ?_) (fun g3 => ?_))
  · subst g
    exact cd_82 hf h
  · subst g
    exact cd_82 hf h
  · have t : cd_lo f = 0 := by
      unfold cd_lo
      rw [if_neg (fun g => g.elim g2 g3)]
    rw [t] at h
    exact cd_82 hf h
theorem cd_193 (h : wL_lawOf_217 post mc ms x0 x1 x2 x3 x4 x5 x6 x7 x8 x9 x10 x11 0 0 kc ks) : wL_lawOf_193 post mc ms x0 x1 x2 x3 x4 x5 x6 x7 x8 x9 x10 x11 kc ks := by
  unfold wL_lawOf_193
  unfold wL_lawOf_194
  unfold wL_lawOf_216
  exact br_t rfl h
theorem cd_129N (h7 : x7 = 0) (h : ∀ x10 x11 : Int32, wL_lawOf_217 post mc ms x0 x1 x2 x3 x4 x5 x6 x7 x8 x9 x10 x11 0 0 kc ks) : wL_lawOf_129 post mc ms x0 x1 x2 x3 x4 x5 x6 x7 x8 x9 kc ks := by
  have k : ∀ x10 x11 : Int32, wL_lawOf_157 post mc ms x0 x1 x2 x3 x4 x5 x6 x7 x8 x9 x10 x11 kc ks := fun x10 x11 => br_t h7 (cd_193 (h x10 x11))
  have k2 : ∀ x10 : Int32, wL_lawOf_143 post mc ms x0 x1 x2 x3 x4 x5 x6 x7 x8 x9 x10 kc ks := fun x10 => br_c (fun _ => ⟨by decide, k _ _⟩) (fun _ => k _ _)
  exact br_c (fun _ => ⟨by decide, k2 _⟩) (fun _ => k2 _)
theorem cd_129M (hx : x1 < 0) (h : wL_lawOf_217 post mc ms x0 x1 x2 x3 x4 x5 x6 1 x8 x9 0 0 0 0 kc ks) : wL_lawOf_129 post mc ms x0 x1 x2 x3 x4 x5 x6 1 x8 x9 kc ks := by
  have g : ¬ 0 ≤ x1 := by
    rw [show (0 : Int32) = nI 0 from rfl, cd_ltI (by decide)] at hx
    rw [Int32.le_iff_toInt_le]
    have t : (0 : Int32).toInt = 0 := by decide
    omega
  have k : wL_lawOf_157 post mc ms x0 x1 x2 x3 x4 x5 x6 1 x8 x9 0 0 kc ks := br_f (by decide) (br_t hx (cd_193 h))
  have k2 : wL_lawOf_143 post mc ms x0 x1 x2 x3 x4 x5 x6 1 x8 x9 0 kc ks := br_f g k
  exact br_f g k2
theorem cd_129K {f q : Nat} (hf : f < 8) (hq : q < 2 ^ 31)
    (H3 : ¬ cd_R f q → wL_lawOf_217 post mc ms x0 (nI q) x2 x3 x4 x5 x6 1 (nI (cd_lo f)) (nI (cd_hi f)) (nI (q / 64)) (nI (q % 64)) 0 0 kc ks)
    (H4 : cd_R f q → (x2 < 1 ∨ 59 < x2) → wL_lawOf_217 post mc ms x0 (nI q) x2 x3 x4 x5 x6 1 (nI (cd_lo f)) (nI (cd_hi f)) (nI (q / 64)) (nI (q % 64)) 1 0 kc ks)
    (H5 : cd_R f q → ∀ s : Nat, 1 ≤ s → s ≤ 59 → x2 = nI s → wL_lawOf_217 post mc ms x0 (nI q) x2 x3 x4 x5 x6 1 (nI (cd_lo f)) (nI (cd_hi f)) (nI (q / 64)) (nI (q % 64)) 1 1 kc ks) :
    wL_lawOf_129 post mc ms x0 (nI q) x2 x3 x4 x5 x6 1 (nI (cd_lo f)) (nI (cd_hi f)) kc ks := by
  have hlo := cd_lo_le f
  have hhi := cd_hi_le f
  have k : wL_lawOf_157 post mc ms x0 (nI q) x2 x3 x4 x5 x6 1 (nI (cd_lo f)) (nI (cd_hi f)) (nI (q / 64)) (nI (q % 64)) kc ks := by
    unfold wL_lawOf_157
    refine br_f (by decide) (br_f (nI_pos hq) (pk_lt (q / 64) (cd_lo f) (fun g => cd_193 (H3 (fun R => absurd R.1 (by omega)))) (fun g1 => pk_lt (cd_hi f) (q % 64) (fun g => cd_193 (H3 (fun R => absurd R.2.1 (by omega)))) (fun g2 => pk_lt (q % 64) (q / 64) (fun g => cd_193 (H3 (fun R => absurd R.2.2 (by omega)))) (fun g3 => ?_)))))
    have R : cd_R f q := ⟨g1, g2, g3⟩
    unfold wL_lawOf_194
    unfold wL_lawOf_216
    refine br_f (by decide) (br_c (fun g => H4 R (Or.inl g)) (fun g4 => br_c (fun g => H4 R (Or.inr g)) (fun g5 => ?_)))
    obtain ⟨s, s1, s2, e⟩ := cd_of (x := x2) (a := 1) (b := 59) (by decide) (by decide) g4 g5
    exact H5 R s s1 s2 e
  have e1 : nI q / 64 = nI (q / 64) := pk_div (d := 64) hq (by decide) (by decide)
  have e2 : nI q - nI q / 64 * 64 = nI (q % 64) := pk_rem (d := 64) hq (by decide) (by decide)
  have k2 : wL_lawOf_143 post mc ms x0 (nI q) x2 x3 x4 x5 x6 1 (nI (cd_lo f)) (nI (cd_hi f)) (nI (q / 64)) kc ks := br_t (nI_pos' hq) ⟨by decide, by rw [e2]; exact k⟩
  exact br_t (nI_pos' hq) ⟨by decide, by rw [e1]; exact k2⟩
/-! ===== the law: a known field ===== -/
theorem cd_448K {r f : Nat} (hr : r < 4) (hf : f < 5) (H : post 1 ()) (hT : cd_T a3 a4) (h2 : ¬ a2 (5 * r + f) = 0) :
    wL_lawOf_448 post mc ms x3 (nI r) (nI f) 1 (nI (cd_lo f)) (nI (cd_hi f)) z z kc ks y m d a1 a2 a3 a4 := by
  unfold wL_lawOf_448
  unfold wL_lawOf_512
  unfold wL_lawOf_513
  refine br_t rfl (cd_allowedK hr hf hT (fun g => cd_fillK hr hf (fun _ => br_f (by decide) ?_) (fun g => absurd g h2)) (fun g1 g2 _ => cd_fillK hr hf (fun _ => br_f (by decide) (br_f g1 (br_f g2 (br_t rfl (br_t rfl H))))) (fun g => absurd g h2)) (fun _ _ _ _ g => absurd g h2))
  exact br_c (fun _ => br_t rfl (br_t rfl H)) (fun g1 => br_c (fun _ => br_t rfl (br_t rfl H)) (fun g2 => absurd g (fun g => g.elim g1 g2)))
theorem cd_401K {r f : Nat} (hr : r < 4) (hf : f < 5) (H : post 1 ()) (hT : cd_T a3 a4) (h2 : (x13 = 0 ∧ ¬ a2 (5 * r + f) = 0) ∨ (¬ x13 = 0 ∧ a2 (5 * r + f) = 0)) :
    wL_lawOf_401 post mc ms x3 1 (nI r) (nI f) 1 (nI (cd_lo f)) (nI (cd_hi f)) x13 z z kc ks y m d a1 a2 a3 a4 := by
  unfold wL_lawOf_401
  have h1 : ¬ upd a2 (5 * r + f) 1 (5 * r + f) = 0 := by
    rw [pk_us]
    decide
  rcases h2 with ⟨h13, h2⟩ | ⟨h13, h2⟩
  · exact br_t rfl (cd_fillK hr hf (fun _ => br_f (by decide) (br_f (by decide) (br_t h13 (cd_448K hr hf H hT h1)))) (fun g => absurd g h2))
  · exact br_t rfl (cd_fillK hr hf (fun g => absurd h2 g) (fun _ => br_f (by decide) (br_f (by decide) (br_f h13 (cd_448K hr hf H hT h1)))))
theorem cd_370K {r f : Nat} (hr : r < 4) (hf : f < 5) (H : post 1 ()) (hT : cd_T a3 a4) (h2 : (x13 = 0 ∧ ¬ a2 (5 * r + f) = 0) ∨ (¬ x13 = 0 ∧ a2 (5 * r + f) = 0)) (hx : x18 = 0 ∨ x18 = 1) :
    wL_lawOf_370 post mc ms x3 1 (nI r) (nI f) 1 (nI (cd_lo f)) (nI (cd_hi f)) x13 x18 x18 kc ks y m d a1 a2 a3 a4 := by
  unfold wL_lawOf_370
  rcases hx with rfl | rfl
  · exact br_f (by decide) (br_f (by decide) (br_t rfl (cd_401K hr hf H hT h2)))
  · exact br_f (by decide) (br_f (by decide) (br_f (by decide) (cd_401K hr hf H hT h2)))
/-- nothing was done: the set is the full one -/
theorem cd_301F {r f : Nat} (hr : r < 4) (hf : f < 5) (H : post 1 ()) (hT : cd_T a3 a4) (h2 : ¬ a2 (5 * r + f) = 0) :
    wL_lawOf_301 post mc ms x2 x3 1 (nI r) (nI f) 1 (nI (cd_lo f)) (nI (cd_hi f)) x10 x11 0 z z kc ks y m d a1 a2 a3 a4 := by
  have k : ∀ x18 : Int32, x18 = 0 ∨ x18 = 1 → wL_lawOf_335 post mc ms x2 x3 1 (nI r) (nI f) 1 (nI (cd_lo f)) (nI (cd_hi f)) x10 x11 0 x18 x18 kc ks y m d a1 a2 a3 a4 :=
    fun x18 hx => br_t rfl (cd_370K hr hf H hT (Or.inl ⟨rfl, h2⟩) hx)
  unfold wL_lawOf_301
  unfold wL_lawOf_334
  refine br_t rfl (cd_allowedK hr hf hT (fun g => ?_) (fun g1 g2 _ => br_f g1 (br_f g2 (k 1 (Or.inr rfl)))) (fun _ _ _ _ g => absurd g h2))
  exact br_c (fun _ => k 0 (Or.inl rfl)) (fun g1 => br_c (fun _ => k 0 (Or.inl rfl)) (fun g2 => absurd g (fun g => g.elim g1 g2)))
/-- the set was filled from a by steps of s up to b -/
theorem cd_301D {r f a b s n : Nat} (hr : r < 4) (hf : f < 5) (H : post 1 ()) (hT : cd_T a3 a4) (h2 : a2 (5 * r + f) = 0) (hn : n < 2 ^ 64) (h1 : a1 (5 * r + f) = lN n) (hB : cd_B n a b s 64)
    (ha : cd_lo f ≤ a) (hb : b ≤ cd_hi f) (hab : a ≤ b) (hs : 1 ≤ s) (hs2 : s ≤ 59) :
    wL_lawOf_301 post mc ms (nI s) x3 1 (nI r) (nI f) 1 (nI (cd_lo f)) (nI (cd_hi f)) (nI a) (nI b) 1 z z kc ks y m d a1 a2 a3 a4 := by
  have hlo := cd_lo_le f
  have hhi := cd_hi_le f
  have k : ∀ x18 : Int32, x18 = 0 ∨ x18 = 1 → wL_lawOf_370 post mc ms x3 1 (nI r) (nI f) 1 (nI (cd_lo f)) (nI (cd_hi f)) 1 x18 x18 kc ks y m d a1 a2 a3 a4 :=
    fun x18 hx => cd_370K hr hf H hT (Or.inr ⟨by decide, h2⟩) hx
  have kO : (x3 < nI a ∨ nI b < x3) → ∀ z0 : Int32, wL_lawOf_335 post mc ms (nI s) x3 1 (nI r) (nI f) 1 (nI (cd_lo f)) (nI (cd_hi f)) (nI a) (nI b) 1 0 z0 kc ks y m d a1 a2 a3 a4 := by
    intro g z0
    unfold wL_lawOf_335
    unfold wL_lawOf_367
    unfold wL_lawOf_368
    exact br_f (by decide) (br_c (fun _ => k 0 (Or.inl rfl)) (fun g1 => br_c (fun _ => k 0 (Or.inl rfl)) (fun g2 => absurd g (fun g => g.elim g1 g2))))
  have kI : ∀ j : Nat, x3 = nI j → a ≤ j → j ≤ b → ∀ (x17 z0 : Int32), ((j - a) % s = 0 → x17 = 1) → (¬ (j - a) % s = 0 → x17 = 0) → wL_lawOf_335 post mc ms (nI s) x3 1 (nI r) (nI f) 1 (nI (cd_lo f)) (nI (cd_hi f)) (nI a) (nI b) 1 x17 z0 kc ks y m d a1 a2 a3 a4 := by
    intro j ej j1 j2 x17 z0 q1 q0
    subst ej
    unfold wL_lawOf_335
    unfold wL_lawOf_367
    unfold wL_lawOf_368
    refine br_f (by decide) (br_f (nI_nlt j1 (by omega)) (br_f (nI_nlt j2 (by omega)) ⟨nI_ne0 (by omega) (by omega), ?_⟩))
    rw [pk_sub j1, pk_rem (by omega) (by omega) (by omega)]
    have l : (j - a) % s < s := Nat.mod_lt _ (by omega)
    refine pk_eq ((j - a) % s) 0 (fun g => ?_) (fun g => ?_)
    · rw [q1 g]
      exact k 1 (Or.inr rfl)
    · rw [q0 g]
      exact k 0 (Or.inl rfl)
  have T : ∀ x17 : Int32, (∀ z0 : Int32, wL_lawOf_335 post mc ms (nI s) x3 1 (nI r) (nI f) 1 (nI (cd_lo f)) (nI (cd_hi f)) (nI a) (nI b) 1 x17 z0 kc ks y m d a1 a2 a3 a4) →
      (x3 < nI (cd_lo f) → wL_lawOf_334 post mc ms (nI s) x3 1 (nI r) (nI f) 1 (nI (cd_lo f)) (nI (cd_hi f)) (nI a) (nI b) 1 x17 kc ks y m d a1 a2 a3 a4) ∧ (¬ x3 < nI (cd_lo f) →
        ((nI (cd_hi f) < x3 → wL_lawOf_334 post mc ms (nI s) x3 1 (nI r) (nI f) 1 (nI (cd_lo f)) (nI (cd_hi f)) (nI a) (nI b) 1 x17 kc ks y m d a1 a2 a3 a4) ∧ (¬ nI (cd_hi f) < x3 → wL_lawOf_335 post mc ms (nI s) x3 1 (nI r) (nI f) 1 (nI (cd_lo f)) (nI (cd_hi f)) (nI a) (nI b) 1 x17 1 kc ks y m d a1 a2 a3 a4))) :=
    fun x17 t => br_c (fun _ => t 0) (fun _ => br_c (fun _ => t 0) (fun _ => t 1))
  unfold wL_lawOf_301
  refine br_t rfl (cd_allowedK hr hf hT (fun g => T 0 (kO ?_)) (fun _ _ g => absurd h2 g) (fun j j1 j2 ej _ => ⟨n, hn, h1, fun g => T 1 (fun z0 => ?_), fun g => T 0 (fun z0 => ?_)⟩))
  · rcases g with g | g
    · refine Or.inl ((cd_ltI (by omega)).mpr ?_)
      have t := (cd_ltI (by omega)).mp g
      omega
    · refine Or.inr ((cd_gtI (by omega)).mpr ?_)
      have t := (cd_gtI (by omega)).mp g
      omega
  · obtain ⟨g1, g2, _, g4⟩ := (hB j (by omega)).mp g
    exact kI j ej g1 g2 1 z0 (fun _ => rfl) (fun t => absurd g4 t)
  · by_cases g1 : a ≤ j
    · by_cases g2 : j ≤ b
      · exact kI j ej g1 g2 0 z0 (fun t => absurd ((hB j (by omega)).mpr ⟨g1, g2, by omega, t⟩) g) (fun _ => rfl)
      · exact kO (Or.inr (by rw [ej]; exact nI_lt (by omega) (by omega))) z0
    · exact kO (Or.inl (by rw [ej]; exact nI_lt (by omega) (by omega))) z0
/-- nothing was done, for the span or for the step -/
theorem cd_256F {r f : Nat} (hr : r < 4) (hf : f < 5) (H : post 1 ()) (hT : cd_T a3 a4) (h2 : ¬ a2 (5 * r + f) = 0) (hx : (x12 = 0 ∧ x15 = -3) ∨ (¬ x12 = 0 ∧ x15 = -4)) :
    wL_lawOf_256 post mc ms x2 x3 1 (nI r) (nI f) 1 (nI (cd_lo f)) (nI (cd_hi f)) x10 x11 x12 0 x15 z0 kc ks y m d a1 a2 a3 a4 := by
  unfold wL_lawOf_256
  rcases hx with ⟨h, rfl⟩ | ⟨h, rfl⟩
  · exact br_f (by decide) (br_f (by decide) (br_t h (cd_301F hr hf H hT h2)))
  · exact br_f (by decide) (br_f (by decide) (br_f h (br_t rfl (cd_301F hr hf H hT h2))))
/-! ===== the law ===== -/
theorem cd_lawK {w : Nat} (hw : w < 32) (hf : w % 8 < 5) (H : post 1 ()) : wL_lawOf_129 post 42 672 (nI w) x1 x2 x3 1 (nI (w / 8)) (nI (w % 8)) 1 (nI (cd_lo (w % 8))) (nI (cd_hi (w % 8))) 0 0 := by
  have hr : w / 8 < 4 := by omega
  have hc : 5 * (w / 8) + w % 8 < 20 := by omega
  have F : ∀ a2 : Nat → Int32, (∀ k, k < 20 → a2 k = 1) → ¬ a2 (5 * (w / 8) + w % 8) = 0 := by
    intro a2 h
    rw [h _ hc]
    decide
  by_cases hp : x1 < 0
  · refine cd_129M hp ?_
    unfold wL_lawOf_217
    exact ⟨by omega, by omega, 4, 50, by omega, by omega, cd_init (fun a1 a2 a3 a4 h hT => cd_allow3 hw hf hp (br_t rfl (cd_256F hr hf H hT (F a2 h) (Or.inl ⟨rfl, rfl⟩))))⟩
  · obtain ⟨q, hq, rfl⟩ := nI_of hp
    refine cd_129K (by omega) hq (fun hR => ?_) (fun hR hs => ?_) (fun hR s s1 s2 es => ?_)
    · unfold wL_lawOf_217
      exact ⟨by omega, by omega, 4, 50, by omega, by omega, cd_init (fun a1 a2 a3 a4 h hT => cd_allowQ hw hf hT hq (h _ hc) (fun _ => br_t rfl (cd_256F hr hf H hT (F a2 h) (Or.inl ⟨rfl, rfl⟩))) (fun R => absurd R hR) (fun R => absurd R hR))⟩
    · unfold wL_lawOf_217
      refine ⟨by omega, by omega, 4, 50, by omega, by omega, cd_init (fun a1 a2 a3 a4 h hT => cd_allowQ hw hf hT hq (h _ hc) (fun R => absurd hR R) (fun _ _ => br_t rfl (cd_256F hr hf H hT (F a2 h) (Or.inr ⟨by decide, rfl⟩))) (fun _ s s1 s2 e => ?_))⟩
      subst e
      exfalso
      rcases hs with hs | hs
      · exact nI_nlt (b := 1) s1 (by omega) hs
      · exact nI_nlt (a := 59) s2 (by omega) hs
    · subst es
      have N1 : ¬ nI s < 1 := nI_nlt (b := 1) s1 (by omega)
      have N2 : ¬ 59 < nI s := nI_nlt (a := 59) s2 (by omega)
      have E : (nI (q % 64) - nI (q / 64)) / nI s + 1 = nI ((q % 64 - q / 64) / s + 1) := by
        rw [pk_sub hR.2.2, pk_div (by omega) (by omega) (by omega), nI_1]
      unfold wL_lawOf_217
      rw [E]
      refine ⟨by omega, by omega, 4, 50, by omega, by omega, cd_init (fun a1 a2 a3 a4 h hT => cd_allowQ hw hf hT hq (h _ hc) (fun R => absurd hR R) (fun _ g => absurd g (fun g => g.elim N1 N2)) (fun _ s' s1' s2' e a1' n hn ha hB => ?_))⟩
      have es : s = s' := (nI_eq (by omega) (by omega)).mp e
      subst es
      refine br_f (by decide) ⟨nI_ne0 (by omega) (by omega), ?_⟩
      unfold wL_lawOf_256
      exact br_f (by decide) (br_f (by decide) (br_f (by decide) (br_f (by decide) (cd_301D hr hf H hT pk_us hn ha hB hR.1 hR.2.1 hR.2.2 s1 s2))))
theorem cd_lawOf (H : post 1 ()) (p0 p1 p2 p3 : Int32) : wpL_lawOf post 42 672 () p0 p1 p2 p3 := by
  have bad : (p0 < 0 ∨ nI 32 ≤ p0) → wL_lawOf_14 post 42 672 p0 p1 p2 p3 0 0 := by
    intro h
    have k : wL_lawOf_129 post 42 672 p0 p1 p2 p3 0 (-1) (nI 0) 0 (nI (cd_lo 0)) (nI (cd_hi 0)) 0 0 :=
      cd_129N rfl (fun x10 x11 => cd_217N (e := -1) H rfl (Or.inl ⟨rfl, rfl⟩) (fun P y m d a1 a2 a3 a4 hP => cd_allowN h hP) (fun y m d a1 a2 a3 a4 => ⟨fun P hP => cd_allowedN (by decide) hP, fun P hP => cd_fillN (by decide) hP⟩))
    have k2 : wL_lawOf_63 post 42 672 p0 p1 p2 p3 0 (-1) (nI 0) 0 0 0 := cd_63 (by decide) k
    unfold wL_lawOf_14
    unfold wL_lawOf_15
    unfold wL_lawOf_30
    unfold wL_lawOf_45
    unfold wL_lawOf_62
    exact br_t rfl (br_t rfl (br_t rfl k2))
  unfold wpL_lawOf
  refine br_c (fun h => bad (Or.inl h)) (fun h0 => br_c (fun h => bad (Or.inr h)) (fun h32 => ?_))
  obtain ⟨w, hw, rfl⟩ := nI_of h0
  have hw2 : w < 32 := by
    rcases Nat.lt_or_ge w 32 with g | g
    · exact g
    · exact absurd (nI_le (a := 32) g hw) h32
  have e1 : nI w / 8 = nI (w / 8) := pk_div (d := 8) hw (by decide) (by decide)
  have e2 : nI w - nI w / 8 * 8 = nI (w % 8) := pk_rem (d := 8) hw (by decide) (by decide)
  have hr : w / 8 < 4 := by omega
  have hm : w % 8 < 8 := by omega
  unfold wL_lawOf_15
  refine br_f (by decide) ⟨by decide, ?_⟩
  unfold wL_lawOf_30
  refine br_f (by decide) ⟨by decide, ?_⟩
  rw [e2, e1]
  unfold wL_lawOf_45
  unfold wL_lawOf_62
  refine br_f (by decide) (pk_lt 4 (w % 8) (fun g => cd_63 hm (cd_129N rfl (fun x10 x11 => ?_))) (fun g => cd_63 hm (cd_lawK hw2 (by omega) H)))
  exact cd_217N (e := -2) H rfl (Or.inr ⟨by decide, rfl⟩) (fun P y m d a1 a2 a3 a4 hP => cd_allowU hw2 g hP) (fun y m d a1 a2 a3 a4 => ⟨fun P hP => cd_allowedU hr g hm hP, fun P hP => cd_fillU hr g hm hP⟩)
end
theorem cd_cell {P : Int32 → Prop} {L k : Nat} {xs : Nat → Int32} (hL : L ≤ 4) (hk : k < 4) (H : ∀ x, P x) : wpL_cellAt P L xs () (nI k) :=
  pk_le L k (fun _ => H 0) (fun z => ⟨pk_in k L z, H _⟩)
end
section
theorem i_vc (xs : Nat → Int32) (L : Nat) (hL : L ≤ 4) : wpL_law (fun r => r = 1) L xs := by
  unfold wpL_law
  exact cd_cell (k := 0) hL (by decide) (fun r1 => cd_cell (k := 1) hL (by decide) (fun r2 => cd_cell (k := 2) hL (by decide) (fun r3 => cd_cell (k := 3) hL (by decide) (fun r4 =>
    ⟨42, 672, by decide, by decide, cd_lawOf rfl r1 r2 r3 r4⟩))))
end
