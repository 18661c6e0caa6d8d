section
/-! rows taken from kit/rows (starting text) -/
theorem pk_us {f : Nat → Int32} {k : Nat} {x : Int32} : upd f k x k = x := if_pos rfl
theorem pk_un {f : Nat → Int32} {k j : Nat} {x : Int32} (h : j ≠ k) : upd f k x j = f j := if_neg h
theorem pk_sub {a b : Nat} (h : b ≤ a) : nI a - nI b = nI (a - b) := by
  obtain ⟨c, rfl⟩ : ∃ c, a = c + b := ⟨a - b, by omega⟩
  rw [← nI_add, Int32.add_sub_cancel, Nat.add_sub_cancel]
theorem pk_mul (a b : Nat) : nI a * nI b = nI (a * b) := (Int32.ofNat_mul a b).symm
theorem pk_div {a d : Nat} (ha : a < 2 ^ 31) (h0 : 0 < d) (hd : d < 2 ^ 31) : nI a / nI d = nI (a / d) := by
  apply Int32.toInt_inj.mp
  rw [lg_idiv_nonneg (by rw [nI_toInt ha]; omega) (by rw [nI_toInt hd]; omega), nI_toInt ha, nI_toInt hd, nI_toInt (Nat.lt_of_le_of_lt (Nat.div_le_self a d) ha)]
  first | rfl | exact (Int.natCast_ediv _ _).symm
theorem pk_rem {a d : Nat} (ha : a < 2 ^ 31) (h0 : 0 < d) (hd : d < 2 ^ 31) : nI a - nI a / nI d * nI d = nI (a % d) := by
  rw [pk_div ha h0 hd, pk_mul, pk_sub (Nat.div_mul_le_self a d)]
  exact congrArg nI (by have := Nat.div_add_mod' a d; omega)
theorem pk_le {x y : Int32} {A B : Prop} (a b : Nat) (f : a ≤ b → A) (g : b < a → B) (hx : x = nI a := by rfl) (hy : y = nI b := by rfl) (ha : a < 2 ^ 31 := by omega) (hb : b < 2 ^ 31 := by omega) : (x ≤ y → A) ∧ (¬ x ≤ y → B) := by
  subst hx hy
  rw [nI_leI ha hb]
  exact ⟨f, fun z => g (by omega)⟩
theorem pk_lt {x y : Int32} {A B : Prop} (a b : Nat) (f : a < b → A) (g : b ≤ a → B) (hx : x = nI a := by rfl) (hy : y = nI b := by rfl) (ha : a < 2 ^ 31 := by omega) (hb : b < 2 ^ 31 := by omega) : (x < y → A) ∧ (¬ x < y → B) := by
  subst hx hy
  rw [nI_ltI ha hb]
  exact ⟨f, fun z => g (by omega)⟩
theorem pk_eq {x y : Int32} {A B : Prop} (a b : Nat) (f : a = b → A) (g : a ≠ b → B) (hx : x = nI a := by rfl) (hy : y = nI b := by rfl) (ha : a < 2 ^ 31 := by omega) (hb : b < 2 ^ 31 := by omega) : (x = y → A) ∧ (¬ x = y → B) := by
  subst hx hy
  rw [nI_eq ha hb]
  exact ⟨f, g⟩
theorem pk_tn {n : Nat} (h : n < 2 ^ 32) : (nI n).toBitVec.toNat = n := Nat.mod_eq_of_lt h
theorem pk_and (x : Int32) {m : Int32} (k : Nat) (hm : m.toBitVec.toNat = 2 ^ k - 1) : x &&& m = nI (x.toBitVec.toNat % 2 ^ k) := by
  apply Int32.toBitVec_inj.mp
  apply BitVec.eq_of_toNat_eq
  rw [Int32.toBitVec_and, BitVec.toNat_and, hm, Nat.and_two_pow_sub_one_eq_mod]
  show _ = (BitVec.ofNat 32 _).toNat
  rw [BitVec.toNat_ofNat]
  exact (Nat.mod_eq_of_lt (Nat.lt_of_le_of_lt (Nat.mod_le _ _) x.toBitVec.isLt)).symm
theorem pk_andE (x : Int32) {m : Int32} (k : Nat) (hm : m.toBitVec.toNat = 2 ^ k - 1) : ∃ j : Nat, j < 2 ^ k ∧ x &&& m = nI j := ⟨_, Nat.mod_lt _ (Nat.two_pow_pos k), pk_and x k hm⟩
end
section
/-! the rotation of a long: bit by bit; the xor goes through; one step iterated K times is the rotation by K -/
def nh_rot (x : Int64) (p : Int32) : Int64 := (x <<< (p.toInt64 &&& 63)) ||| ((x.toUInt64 >>> ((64 - p).toInt64.toUInt64 &&& Int64.toUInt64 63)).toInt64)
def nh_R (x : Int64) : Int64 := (x <<< ((1 : Int32).toInt64 &&& 63)) ||| ((x.toUInt64 >>> ((63 : Int32).toInt64.toUInt64 &&& Int64.toUInt64 63)).toInt64)
def nh_bt (x : Int64) (i : Nat) : Bool := x.toBitVec.getLsbD i
theorem nh_ext {x y : Int64} (h : ∀ i, i < 64 → nh_bt x i = nh_bt y i) : x = y := Int64.toBitVec_inj.mp (BitVec.eq_of_getLsbD_eq (fun i hi => h i hi))
theorem nh_shl (a s : Int64) (k : Nat) (hs : (s.toBitVec.smod 64).toNat = k) : (a <<< s).toBitVec = a.toBitVec <<< k := by
  rw [← hs]
  rfl
theorem nh_ushr (a : Int64) (s : UInt64) (k : Nat) (hs : (s.toBitVec % 64).toNat = k) : (a.toUInt64 >>> s).toInt64.toBitVec = a.toBitVec >>> k := by
  rw [← hs]
  exact UInt64.toBitVec_shiftRight _ _
theorem nh_c1 : ∀ K, K < 9 → (((nI K).toInt64 &&& 63).toBitVec.smod 64).toNat = K := by decide +kernel
theorem nh_c2 : ∀ K, K < 9 → 0 < K → (((64 - nI K).toInt64.toUInt64 &&& Int64.toUInt64 63).toBitVec % 64).toNat = 64 - K := by decide +kernel
theorem nh_bit (x : Int64) {K i : Nat} (h0 : 0 < K) (h8 : K < 9) (hi : i < 64) : nh_bt (nh_rot x (nI K)) i = if i < K then nh_bt x (64 - K + i) else nh_bt x (i - K) := by
  unfold nh_bt nh_rot
  rw [Int64.toBitVec_or, nh_shl _ _ K (nh_c1 K h8), nh_ushr _ _ (64 - K) (nh_c2 K h8 h0), BitVec.getLsbD_or, BitVec.getLsbD_shiftLeft, BitVec.getLsbD_ushiftRight]
  by_cases h : i < K
  · rw [if_pos h, decide_eq_true h]
    simp
  · rw [if_neg h, decide_eq_false h, decide_eq_true hi, BitVec.getLsbD_of_ge _ (64 - K + i) (by omega)]
    simp
theorem nh_I1 : nI 1 = 1 := by decide +kernel
theorem nh_63 : (64 : Int32) - 1 = 63 := by decide +kernel
theorem nh_rot1 (x : Int64) : nh_rot x 1 = nh_R x := by
  unfold nh_rot nh_R
  rw [nh_63]
theorem nh_bitR (x : Int64) {i : Nat} (hi : i < 64) : nh_bt (nh_R x) i = if i < 1 then nh_bt x (63 + i) else nh_bt x (i - 1) := by
  rw [← nh_rot1, ← nh_I1]
  exact nh_bit x (K := 1) (by omega) (by omega) hi
theorem nh_bitX (x y : Int64) (i : Nat) : nh_bt (x ^^^ y) i = (nh_bt x i ^^ nh_bt y i) := by
  unfold nh_bt
  rw [Int64.toBitVec_xor, BitVec.getLsbD_xor]
theorem nh_Rx (x y : Int64) : nh_R (x ^^^ y) = nh_R x ^^^ nh_R y := by
  apply nh_ext
  intro i hi
  rw [nh_bitX, nh_bitR _ hi, nh_bitR _ hi, nh_bitR _ hi, nh_bitX, nh_bitX]
  by_cases h : i < 1
  · rw [if_pos h, if_pos h, if_pos h]
  · rw [if_neg h, if_neg h, if_neg h]
theorem nh_R0 : nh_R 0 = 0 := by decide +kernel
def nh_it : Nat → Int64 → Int64
  | 0, x => x
  | n + 1, x => nh_R (nh_it n x)
theorem nh_it_s (x : Int64) : ∀ n, nh_it n (nh_R x) = nh_R (nh_it n x) := by
  intro n
  induction n with
  | zero => rfl
  | succ n ih => exact congrArg nh_R ih
theorem nh_bitI (x : Int64) : ∀ n, n < 64 → ∀ i, i < 64 → nh_bt (nh_it n x) i = if i < n then nh_bt x (64 - n + i) else nh_bt x (i - n) := by
  intro n
  induction n with
  | zero =>
    intro _ i _
    rw [if_neg (by omega)]
    rfl
  | succ n ih =>
    intro hn i hi
    show nh_bt (nh_R (nh_it n x)) i = _
    rw [nh_bitR _ hi]
    by_cases h : i < 1
    · rw [if_pos h, if_pos (by omega), ih (by omega) _ (by omega), if_neg (by omega)]
      exact congrArg (nh_bt x) (by omega)
    · rw [if_neg h, ih (by omega) _ (by omega)]
      by_cases h2 : i < n + 1
      · rw [if_pos (by omega), if_pos h2]
        exact congrArg (nh_bt x) (by omega)
      · rw [if_neg (by omega), if_neg h2]
        exact congrArg (nh_bt x) (by omega)
theorem nh_itK (x : Int64) {K : Nat} (h0 : 0 < K) (h8 : K < 9) : nh_it K x = nh_rot x (nI K) := by
  apply nh_ext
  intro i hi
  rw [nh_bitI x K (by omega) i hi, nh_bit x h0 h8 hi]
end
section
/-! the plain law: the hash of a window as a fold, and how one roll changes it -/
def nh_sd : Nat → Int64 := vp_updL (vp_updL (vp_updL (vp_updL (fun _ => 0) 0 4362857412768957556) 1 3572411708064410444) 2 2319985823310095140) 3 2978368046464386134
def nh_v (a : Nat → Int32) (K j : Nat) : Int64 := nh_sd (a (j % K)).toNatClampNeg
def nh_f (a : Nat → Int32) (K : Nat) : Nat → Nat → Int64 → Int64
  | 0, _, h => h
  | n + 1, j, h => nh_f a K n (j + 1) (nh_R h ^^^ nh_v a K j)
theorem nh_snoc (a : Nat → Int32) (K : Nat) : ∀ n j h, nh_f a K (n + 1) j h = nh_R (nh_f a K n j h) ^^^ nh_v a K (j + n) := by
  intro n
  induction n with
  | zero => intro j h; rfl
  | succ n ih =>
    intro j h
    have e := ih (j + 1) (nh_R h ^^^ nh_v a K j)
    rw [show j + 1 + n = j + (n + 1) from by omega] at e
    exact e
theorem nh_xr (x y z : Int64) : (x ^^^ y) ^^^ z = (x ^^^ z) ^^^ y := by
  rw [Int64.xor_assoc, Int64.xor_comm y z, ← Int64.xor_assoc]
theorem nh_lin (a : Nat → Int32) (K : Nat) : ∀ n j h g, nh_f a K n j (h ^^^ g) = nh_f a K n j h ^^^ nh_it n g := by
  intro n
  induction n with
  | zero => intro j h g; rfl
  | succ n ih =>
    intro j h g
    show nh_f a K n (j + 1) (nh_R (h ^^^ g) ^^^ nh_v a K j) = nh_f a K n (j + 1) (nh_R h ^^^ nh_v a K j) ^^^ nh_R (nh_it n g)
    rw [nh_Rx, nh_xr, ih, nh_it_s]
theorem nh_cong (a b : Nat → Int32) (K : Nat) : ∀ n j h, (∀ i, i < n → a ((j + i) % K) = b ((j + i) % K)) → nh_f a K n j h = nh_f b K n j h := by
  intro n
  induction n with
  | zero => intro j h _; rfl
  | succ n ih =>
    intro j h H
    show nh_f a K n (j + 1) (nh_R h ^^^ nh_v a K j) = nh_f b K n (j + 1) (nh_R h ^^^ nh_v b K j)
    have e : nh_v a K j = nh_v b K j := congrArg (fun z : Int32 => nh_sd z.toNatClampNeg) (H 0 (by omega))
    rw [e]
    apply ih
    intro i hi
    rw [show j + 1 + i = j + (i + 1) from by omega]
    exact H (i + 1) (by omega)
theorem nh_ms {K : Nat} (j : Nat) (h0 : 0 < K) : (j % K + 1 < K ∧ (j + 1) % K = j % K + 1) ∨ (j % K + 1 = K ∧ (j + 1) % K = 0) := by
  have hl := Nat.mod_lt j h0
  have e := Nat.div_add_mod j K
  have e1 : (j + 1) % K = (j % K + 1) % K := by
    have e2 : j + 1 = K * (j / K) + (j % K + 1) := by omega
    rw [e2, Nat.mul_add_mod]
  by_cases h : j % K + 1 < K
  · exact Or.inl ⟨h, e1.trans (Nat.mod_eq_of_lt h)⟩
  · have h2 : j % K + 1 = K := by omega
    exact Or.inr ⟨h2, by rw [e1, h2, Nat.mod_self]⟩
theorem nh_ne {K t d : Nat} (h0 : 0 < d) (hd : d < K) (ht : d ≤ t) : (t - d) % K ≠ t % K := by
  intro e
  have h := Nat.sub_mod_eq_zero_of_mod_eq e.symm
  rw [show t - (t - d) = d from by omega, Nat.mod_eq_of_lt hd] at h
  omega
/-- the window's length after t rolls -/
def nh_C (K t : Nat) : Nat := if K ≤ t then K else t
/-- the hash of the window after t rolls -/
def nh_H (a : Nat → Int32) (K t : Nat) : Int64 := nh_f a K (nh_C K t) (t - nh_C K t) 0
theorem nh_C_ge {K t : Nat} (h : K ≤ t) : nh_C K t = K := if_pos h
theorem nh_C_lt {K t : Nat} (h : t ≤ K) : nh_C K t = t := by
  unfold nh_C
  split <;> omega
theorem nh_vu (a : Nat → Int32) (K t : Nat) (x : Int32) : nh_v (upd a (t % K) x) K t = nh_sd x.toNatClampNeg := by
  unfold nh_v
  rw [pk_us]
theorem nh_roll1 (a : Nat → Int32) {K t : Nat} (h : t < K) (x : Int32) : nh_H (upd a (t % K) x) K (t + 1) = nh_R (nh_H a K t) ^^^ nh_sd x.toNatClampNeg := by
  unfold nh_H
  rw [nh_C_lt (show t + 1 ≤ K from h), nh_C_lt (Nat.le_of_lt h), Nat.sub_self, Nat.sub_self, nh_snoc, Nat.zero_add, nh_vu]
  rw [nh_cong (upd a (t % K) x) a K t 0 0]
  intro i hi
  apply pk_un
  rw [Nat.mod_eq_of_lt h, Nat.mod_eq_of_lt (by omega)]
  omega
theorem nh_roll2 (a : Nat → Int32) {K t : Nat} (h0 : 0 < K) (h8 : K < 9) (h : K ≤ t) (x : Int32) : nh_H (upd a (t % K) x) K (t + 1) = (nh_R (nh_H a K t) ^^^ nh_rot (nh_v a K (t - K)) (nI K)) ^^^ nh_sd x.toNatClampNeg := by
  unfold nh_H
  rw [nh_C_ge (show K ≤ t + 1 by omega), nh_C_ge h]
  obtain ⟨m, rfl⟩ : ∃ m, K = m + 1 := ⟨K - 1, by omega⟩
  have e1 : nh_f (upd a (t % (m + 1)) x) (m + 1) (m + 1) (t + 1 - (m + 1)) 0 = nh_R (nh_f a (m + 1) m (t - m) 0) ^^^ nh_sd x.toNatClampNeg := by
    rw [nh_snoc, show t + 1 - (m + 1) = t - m from by omega, show t - m + m = t from by omega, nh_vu]
    rw [nh_cong (upd a (t % (m + 1)) x) a (m + 1) m (t - m) 0]
    intro i hi
    apply pk_un
    rw [show t - m + i = t - (m - i) from by omega]
    exact nh_ne (by omega) (by omega) (by omega)
  have e2 : nh_f a (m + 1) (m + 1) (t - (m + 1)) 0 = nh_f a (m + 1) m (t - m) 0 ^^^ nh_it m (nh_v a (m + 1) (t - (m + 1))) := by
    show nh_f a (m + 1) m (t - (m + 1) + 1) (nh_R 0 ^^^ nh_v a (m + 1) (t - (m + 1))) = _
    rw [nh_R0, nh_lin, show t - (m + 1) + 1 = t - m from by omega]
  rw [e1, e2, nh_Rx, ← nh_itK _ h0 h8]
  show _ = ((nh_R _ ^^^ nh_R (nh_it m _)) ^^^ nh_R (nh_it m _)) ^^^ _
  rw [Int64.xor_assoc (nh_R _), Int64.xor_self, Int64.xor_zero]
end
section
/-! the walks, each over a general post -/
/-- every cell of the ring holds a base -/
def nh_B (a : Nat → Int32) : Prop := ∀ j, ∃ c, c < 4 ∧ a j = nI c
theorem nh_Bu {a : Nat → Int32} (h : nh_B a) (i : Nat) {b : Nat} (hb : b < 4) : nh_B (upd a i (nI b)) := by
  intro j
  by_cases e : j = i
  · exact ⟨b, hb, by rw [e, pk_us]⟩
  · rw [pk_un e]
    exact h j
theorem nh_seed {post : Int64 → Prop} {c : Nat} (hc : c < 4) (h : post (nh_sd c)) : wpX_seed post (nI c) := by
  unfold wpX_seed
  match c, hc with
  | 0, _ => exact br_t (by decide +kernel) h
  | 1, _ => exact br_f (by decide +kernel) (br_t (by decide +kernel) h)
  | 2, _ => exact br_f (by decide +kernel) (br_f (by decide +kernel) (br_t (by decide +kernel) h))
  | 3, _ => exact br_f (by decide +kernel) (br_f (by decide +kernel) (br_f (by decide +kernel) h))
theorem nh_seedA {post : Int64 → Prop} {a : Nat → Int32} (ha : nh_B a) (K j : Nat) (h : post (nh_v a K j)) : wpX_seed post (a (j % K)) := by
  obtain ⟨c, hc, e⟩ := ha (j % K)
  unfold nh_v at h
  rw [e] at h ⊢
  rw [nI_clamp (by omega)] at h
  exact nh_seed hc h
theorem nh_rotl {post : Int64 → Prop} {x : Int64} {p : Int32} (h : post (nh_rot x p)) : wpX_rotl post x p := h
theorem nh_rotl1 {post : Int64 → Prop} {x : Int64} (h : post (nh_R x)) : wpX_rotl post x 1 := by
  apply nh_rotl
  rw [nh_rot1]
  exact h
theorem nh_fr {post : Int32 → Prop} {K C : Nat} {hd : Int32} {h : Int64} {a : Nat → Int32} (h0 : 0 < K) (h8 : K < 9) (hC : C < 9) (ha : nh_B a) (hp : post 1) : ∀ r n j i x, r < n → i + r = C → nh_f a K r j x = h → wX_fresh_10 post (nI K) hd (nI C) h a n x (nI (j % K)) (nI i) := by
  intro r
  induction r with
  | zero =>
    intro n j i x hn hi e
    obtain ⟨m, rfl⟩ : ∃ m, n = m + 1 := ⟨n - 1, by omega⟩
    have hx : x = h := e
    exact br_t (nI_le (by omega) (by omega)) (br_t hx hp)
  | succ r ih =>
    intro n j i x hn hi e
    obtain ⟨m, rfl⟩ : ∃ m, n = m + 1 := ⟨n - 1, by omega⟩
    have hl : j % K < K := Nat.mod_lt j h0
    refine br_f (nI_ge (by omega) (by omega)) ?_
    refine nh_rotl1 ?_
    refine ⟨vp_in_nI (by omega) (by omega), ?_⟩
    rw [nI_clamp (by omega)]
    refine nh_seedA ha K j ?_
    intro x1 e1
    intro x3 e3
    have G := ih m (j + 1) (i + 1) x1 (by omega) (by omega) (by rw [e1]; exact e)
    rw [nI_1] at e3
    rcases nh_ms j h0 with ⟨q, w⟩ | ⟨q, w⟩
    · rw [w] at G
      refine br_t (by rw [e3]; exact nI_lt (by omega) (by omega)) ?_
      intro x4 e4
      rw [e4, e3, nI_1 i]
      exact G
    · rw [w] at G
      refine br_f (by rw [e3]; exact nI_nlt (by omega) (by omega)) ?_
      intro x4 e4
      rw [e4, nI_1 i]
      exact G
theorem nh_fresh {post : Int32 → Prop} {K t : Nat} {a : Nat → Int32} (h0 : 0 < K) (h8 : K < 9) (ha : nh_B a) (hp : post 1) : wpX_fresh post (nI K, nI ((t - nh_C K t) % K), nI (nh_C K t), nh_H a K t, a) := by
  have hC : nh_C K t < 9 := by
    unfold nh_C
    split <;> omega
  exact ⟨nh_C K t + 1, nh_fr h0 h8 hC ha hp (nh_C K t) _ _ 0 0 (by omega) (by omega) rfl⟩
theorem nh_hy {post : Int64 → Prop} {K t : Nat} {a : Nat → Int32} (h0 : 0 < K) (h8 : K < 9) (ht : t < 2 ^ 31) (ha : nh_B a) : ∀ r n j x, r < n → j + r = t → post (nh_f a K r j x) → wY_hash_33 post (nI K) (nI t) a nh_sd n x (nI j) := by
  intro r
  induction r with
  | zero =>
    intro n j x hn hj hp
    obtain ⟨m, rfl⟩ : ∃ m, n = m + 1 := ⟨n - 1, by omega⟩
    exact br_t (nI_le (by omega) (by omega)) hp
  | succ r ih =>
    intro n j x hn hj hp
    obtain ⟨m, rfl⟩ : ∃ m, n = m + 1 := ⟨n - 1, by omega⟩
    have hl : j % K < K := Nat.mod_lt j h0
    unfold wY_hash_33
    rw [pk_rem (by omega) h0 (by omega), nI_clamp (show j % K < 2 ^ 31 by omega)]
    refine br_f (nI_ge (by omega) ht) ⟨nI_ne0 h0 (by omega), vp_in_nI (by omega) (by omega), ?_, ?_⟩
    · obtain ⟨c, hc, e⟩ := ha (j % K)
      rw [e]
      exact vp_in_nI hc (by omega)
    · intro x2 e2 x4 e4
      rw [e4, nI_1]
      refine ih m (j + 1) x2 (by omega) (by omega) ?_
      rw [e2]
      exact hp
theorem nh_hash {post : Int64 → Prop} {K t : Nat} {a : Nat → Int32} (h0 : 0 < K) (h8 : K < 9) (ht : t < 2 ^ 31) (ha : nh_B a) (hp : post (nh_H a K t)) : wpY_hash post (nI K, nI t, a, nh_sd) := by
  unfold wpY_hash
  dsimp only
  unfold nh_H at hp
  by_cases h : K ≤ t
  · rw [nh_C_ge h] at hp
    refine br_t (nI_le h ht) ?_
    unfold wY_hash_22
    intro x e
    rw [pk_sub h] at e
    rw [e]
    exact ⟨K + 1, nh_hy h0 h8 ht ha K _ _ 0 (by omega) (by omega) hp⟩
  · rw [nh_C_lt (by omega)] at hp
    refine br_f (nI_ge (by omega) (by omega)) ?_
    unfold wY_hash_22
    intro x e
    rw [pk_sub (Nat.le_refl t)] at e
    rw [e]
    exact ⟨t + 1, nh_hy h0 h8 ht ha t _ _ 0 (by omega) (by omega) hp⟩
/-- what a roll answers -/
def nh_ans (x : Int64) : Int32 := (x ^^^ ((x.toUInt64 >>> ((32 : Int32).toInt64.toUInt64 &&& Int64.toUInt64 63)).toInt64)).toInt32
theorem nh_118 {post : Int32 → SX → Prop} {x2 f_k f_head : Int32} {x3 f_h : Int64} {p C : Nat} {a : Nat → Int32} (hp : p < 8) (h : post (nh_ans x3) (f_k, f_head, nI (C + 1), x3, upd a p x2)) : wX_roll_118 post x2 x3 (nI p) f_k f_head (nI C) f_h a := by
  unfold wX_roll_118
  rw [nI_clamp (by omega)]
  refine ⟨vp_in_nI hp (by omega), ?_⟩
  intro a' ea c' ec
  rw [ea, ec, nI_1]
  exact h
theorem nh_82 {post : Int32 → SX → Prop} {f_h x3 : Int64} {b K hd C p : Nat} {a : Nat → Int32} (hb : b < 4) (h8 : K < 9) (hh : hd < K) (hC : C < 9) (hp : (hd + C < K ∧ hd + C = p) ∨ (K ≤ hd + C ∧ hd + C - K = p)) (hp8 : p < 8) (h : post (nh_ans (x3 ^^^ nh_sd b)) (nI K, nI hd, nI (C + 1), x3 ^^^ nh_sd b, upd a p (nI b))) : wX_roll_82 post (nI b) x3 (nI K) (nI hd) (nI C) f_h a := by
  unfold wX_roll_82
  refine nh_seed hb ?_
  intro y ey
  intro q eq
  rw [nI_add] at eq
  rw [← ey] at h
  rcases hp with ⟨g, w⟩ | ⟨g, w⟩
  · refine br_t (by rw [eq]; exact nI_lt g (by omega)) ?_
    rw [eq, w]
    exact nh_118 hp8 h
  · refine br_f (by rw [eq]; exact nI_nlt g (by omega)) ?_
    intro q2 eq2
    rw [eq, pk_sub g, w] at eq2
    rw [eq2]
    exact nh_118 hp8 h
theorem nh_rollX {post : Int32 → SX → Prop} {K t b : Nat} {a : Nat → Int32} {p0 : Int32} (h0 : 0 < K) (h8 : K < 9) (ha : nh_B a) (hb : b < 4) (e0 : p0 &&& 3 = nI b) (h : post (nh_ans (nh_H (upd a (t % K) (nI b)) K (t + 1))) (nI K, nI ((t + 1 - nh_C K (t + 1)) % K), nI (nh_C K (t + 1)), nh_H (upd a (t % K) (nI b)) K (t + 1), upd a (t % K) (nI b))) : wpX_roll post (nI K, nI ((t - nh_C K t) % K), nI (nh_C K t), nh_H a K t, a) p0 := by
  unfold wpX_roll
  dsimp only
  intro x2 ex
  rw [e0] at ex
  rw [ex]
  refine nh_rotl1 ?_
  by_cases g : K ≤ t
  · have hl : t % K < K := Nat.mod_lt t h0
    have em : (t - K) % K = t % K := (Nat.mod_eq_sub_mod g).symm
    rw [nh_roll2 a h0 h8 g, nI_clamp (by omega), nh_C_ge (show K ≤ t + 1 by omega)] at h
    rw [nh_C_ge g, nI_clamp (show (t - K) % K < 2 ^ 31 by omega)]
    refine br_t rfl ⟨vp_in_nI (by omega) (by omega), ?_⟩
    refine nh_seedA ha K (t - K) ?_
    refine nh_rotl ?_
    intro x3 e3
    rw [← e3] at h
    intro hd eh
    rw [nI_1] at eh
    have e2 : t - K + 1 = t + 1 - K := by omega
    obtain ⟨m, rfl⟩ : ∃ m, K = m + 1 := ⟨K - 1, by omega⟩
    rcases nh_ms (t - (m + 1)) h0 with ⟨q, w⟩ | ⟨q, w⟩
    · rw [e2] at w
      rw [w] at h
      refine br_t (by rw [eh]; exact nI_lt q (by omega)) ?_
      unfold wX_roll_72
      intro c ec
      rw [nI_pred] at ec
      rw [ec, eh]
      exact nh_82 hb h8 q (by omega) (Or.inr ⟨by omega, by omega⟩) (by omega) h
    · rw [e2] at w
      rw [w] at h
      refine br_f (by rw [eh]; exact nI_nlt (by omega) (by omega)) ?_
      unfold wX_roll_72
      intro c ec
      rw [nI_pred] at ec
      rw [ec, ← nI_0]
      exact nh_82 hb h8 h0 (by omega) (Or.inl ⟨by omega, by omega⟩) (by omega) h
  · have g2 : t < K := by omega
    rw [nh_roll1 a g2, nI_clamp (by omega), nh_C_lt (show t + 1 ≤ K from g2), Nat.mod_eq_of_lt g2, Nat.sub_self, Nat.zero_mod] at h
    rw [nh_C_lt (Nat.le_of_lt g2), Nat.sub_self, Nat.zero_mod]
    refine br_f (fun z => ?_) ?_
    · rw [nI_eq (by omega) (by omega)] at z
      omega
    · exact nh_82 hb h8 h0 (by omega) (Or.inl ⟨by omega, by omega⟩) (by omega) h
theorem nh_byte : ∀ b, b < 4 → (nI b).toInt8.toInt32.toInt8.toInt32 = nI b := by decide +kernel
theorem nh_rollY {post : Int32 → SY → Prop} {K t b : Nat} {a : Nat → Int32} {p0 : Int32} (h0 : 0 < K) (h8 : K < 9) (ht : t + 1 < 2 ^ 31) (ha : nh_B a) (hb : b < 4) (e0 : p0 &&& 3 = nI b) (h : post (nh_ans (nh_H (upd a (t % K) (nI b)) K (t + 1))) (nI K, nI (t + 1), upd a (t % K) (nI b), nh_sd)) : wpY_roll post (nI K, nI t, a, nh_sd) p0 := by
  unfold wpY_roll
  dsimp only
  have hl : t % K < K := Nat.mod_lt t h0
  rw [pk_rem (by omega) h0 (by omega), e0, vp_nar_byte, nh_byte b hb]
  refine ⟨nI_ne0 h0 (by omega), ?_⟩
  intro x ex s es
  rw [ex, nI_clamp (show t % K < 2 ^ 31 by omega), es, nI_1]
  refine br_f (nI_pos (by omega)) ⟨vp_in_nI (by omega) (by omega), ?_⟩
  intro a' ea
  rw [ea]
  unfold wY_roll_34
  exact nh_hash h0 h8 ht (nh_Bu ha _ hb) h
end
section
/-- after t rolls both hold the same ring (the base of roll j at j % K, for the last K rolls); the class keeps its oldest cell, the window's length and its hash -/
def i_Rel (k : Nat) (u : SX) (v : SY) : Prop := ∃ (K t : Nat) (a : Nat → Int32), u = (nI K, nI ((t - nh_C K t) % K), nI (nh_C K t), nh_H a K t, a) ∧ v = (nI K, nI t, a, nh_sd) ∧ 0 < K ∧ K < 9 ∧ t ≤ k ∧ nh_B a
theorem i_up {k : Nat} {u : SX} {v : SY} (h : i_Rel k u v) : i_Rel (k + 2) u v := by
  obtain ⟨K, t, a, hu, hv, h0, h8, ht, ha⟩ := h
  exact ⟨K, t, a, hu, hv, h0, h8, by omega, ha⟩
theorem nh_init {K : Nat} (h0 : 0 < K) (h8 : K < 9) : i_Rel 1 (nI K, 0, 0, 0, fun _ => 0) (nI K, 0, fun _ => 0, nh_sd) := by
  refine ⟨K, 0, fun _ => 0, ?_, rfl, h0, h8, by omega, fun _ => ⟨0, by omega, rfl⟩⟩
  unfold nh_H
  rw [nh_C_lt (Nat.zero_le K), Nat.sub_self, Nat.zero_mod]
  rfl
theorem nh_26 {K : Nat} (h0 : 0 < K) (h8 : K < 9) : wY_init_26 (fun v => i_Rel 1 (nI K, 0, 0, 0, fun _ => 0) v) (nI K) 0 0 := by
  unfold wY_init_26
  intro s4 e4 s6 e6 s8 e8 s10 e10
  have e : s10 = nh_sd := by
    rw [e10, e8, e6, e4]
    rfl
  rw [e]
  exact nh_init h0 h8
theorem i_vc0 (k0 : Int32) : wpX_init (fun u => wpY_init (fun v => i_Rel 1 u v) k0) k0 := by
  unfold wpX_init wX_init_21 wX_init_30 wpY_init
  by_cases h1 : 1 ≤ k0
  · refine br_t h1 ?_
    by_cases h8 : k0 ≤ 8
    · refine br_t h8 (br_t h1 (br_t h8 ?_))
      have hn : ¬ k0 < 0 := fun z => by
        have a := Int32.le_iff_toInt_le.mp h1
        have b := Int32.lt_iff_toInt_lt.mp z
        rw [show (1 : Int32).toInt = 1 from by decide] at a
        rw [show (0 : Int32).toInt = 0 from by decide] at b
        omega
      obtain ⟨K, hK, e⟩ := nI_of2 (M := 8) (n := 8) (by decide) hn h8
      rw [e, ← nh_I1, nI_leI (by omega) (by omega)] at h1
      rw [e]
      exact nh_26 h1 (by omega)
    · exact br_f h8 (br_t h1 (br_f h8 (nh_26 (K := 8) (by omega) (by omega))))
  · exact br_f h1 (br_t (by decide) (br_f h1 (nh_26 (K := 1) (by omega) (by omega))))
theorem i_vc_roll {k : Nat} {u : SX} {v : SY} (I : i_Rel k u v) (hk : k + 2 ≤ 1025) (v1 : Int32) : wpX_roll (fun r u' => wpY_roll (fun r' v' => r' = r ∧ i_Rel (k + 2) u' v') v v1) u v1 := by
  obtain ⟨K, t, a, rfl, rfl, h0, h8, ht, ha⟩ := I
  obtain ⟨b, hb, e0⟩ := pk_andE v1 (m := 3) 2 (by decide)
  refine nh_rollX h0 h8 ha hb e0 ?_
  refine nh_rollY h0 h8 (by omega) ha hb e0 ?_
  exact ⟨rfl, K, t + 1, upd a (t % K) (nI b), rfl, rfl, h0, h8, by omega, nh_Bu ha _ hb⟩
theorem i_vc_hash {k : Nat} {u : SX} {v : SY} (I : i_Rel k u v) (hk : k + 2 ≤ 1025) : wpX_hash (fun r => wpY_hash (fun r' => r' = r ∧ i_Rel (k + 2) u v) v) u := by
  have I2 := i_up I
  obtain ⟨K, t, a, rfl, rfl, h0, h8, ht, ha⟩ := I
  unfold wpX_hash
  dsimp only
  exact nh_hash h0 h8 (by omega) ha ⟨rfl, I2⟩
theorem i_vc_fresh {k : Nat} {u : SX} {v : SY} (I : i_Rel k u v) (hk : k + 2 ≤ 1025) : wpX_fresh (fun r => wpY_fresh (fun r' => r' = r ∧ i_Rel (k + 2) u v) v) u := by
  have I2 := i_up I
  obtain ⟨K, t, a, rfl, rfl, h0, h8, ht, ha⟩ := I
  refine nh_fresh h0 h8 ha ?_
  unfold wpY_fresh
  exact ⟨rfl, I2⟩
end
