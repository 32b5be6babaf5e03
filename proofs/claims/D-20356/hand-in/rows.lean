section
theorem sb_copyOf {post : StJefc9b → Prop} {mc ms : Nat} {a : Nat → Int32} {m q : Nat} (h : m < q) (hq : q ≤ 65536) (hf : sb_Fit a) (hmc : 1 ≤ mc) (hms : q ≤ ms)
    (hp : post (a, m, va_cpy a (fun _ => 0) 0 0 m, q)) : wpJ7_copyOf_9075b_9260e post mc ms (a, m) (nI q) := by
  have ei : (if nI q < Int32.ofNat m then nI q else Int32.ofNat m) = nI m := if_neg (nI_nlt (by omega) (by omega))
  have ec : (nI m).toNatClampNeg = m := nI_clamp (by omega)
  refine br_f (fun z => by have := (nI_eq (by omega) (by omega)).mp (show nI q = nI m from z); omega) ⟨nI_pos (by omega), nm_r (nI_clamp (by omega)) ⟨by omega, hmc, by omega, ?_⟩⟩
  rw [ei, ec, sb_cl0]
  exact ⟨by decide, by decide, nI_pos (by omega), by omega, by omega, fun i _ => hf _, nm_e hp⟩
/-- AbstractStringBuilder.ensureCapacityInternal, of Latin-1 bytes -/
theorem sb_ensure {post : StJ4ec0e → Prop} {mc ms : Nat} {ml z : Int32} {a : Nat → Int32} {m q : Nat} (hm : m ≤ 65536) (hq : q < 2 ^ 28) (hf : sb_Fit a) (hr : sb_Room q m mc ms)
    (hp : ∀ a', sb_Fit a' → (∀ j, j < m → a' j = a j) → post (0, ml, z, a', sb_cap q m)) : wpJ5_ensureCapacityInternal_d00df_b0715 post mc ms (0, ml, z, a, m) (nI q) := by
  have e1 : (nI q - Int32.ofNat m).toInt = (q : Int) - m := pk_sub_toInt (by omega) (by omega)
  refine nm_r (sb_shr0 (Int32.ofNat m)) ?_
  by_cases h : q ≤ m
  · refine br_t (by rw [Int32.le_iff_toInt_le, e1, Int32.toInt_zero]; omega) ?_
    have h9 := hp a hf (fun _ _ => rfl)
    rw [sb_cap, if_pos h] at h9
    exact h9
  · have hr' : 1 ≤ mc ∧ sb_cap q m ≤ ms ∧ sb_cap q m ≤ 65536 := hr.resolve_left h
    have hc : sb_cap q m = m + (if q - m < m + 2 then m + 2 else q - m) := by
      unfold sb_cap
      rw [if_neg h]
      split <;> split <;> omega
    have hg := sb_cap_ge q m
    refine br_f (fun hc => h (by rw [Int32.le_iff_toInt_le, e1, Int32.toInt_zero] at hc; omega)) ?_
    have e2 : Int32.ofNat m + ((2 : Int32) <<< ((0 : Int32) &&& 31)) = nI (m + 2) := by
      rw [sb_shl0]
      exact nI_add m 2
    have e3 : Int32.ofNat m + (if nI (q - m) < nI (m + 2) then nI (m + 2) else nI (q - m)) = nI (sb_cap q m) := by
      rw [hc]
      by_cases h2 : q - m < m + 2
      · rw [if_pos h2, if_pos (nI_lt h2 (by omega))]
        exact nI_add m (m + 2)
      · rw [if_neg h2, if_neg (nI_nlt (by omega) (by omega))]
        exact nI_add m (q - m)
    refine nm_e (nm_r (sb_shl0 (nI q)) (nm_r (show nI q - nI m = nI (q - m) from pk_sub (by omega)) ?_))
    rw [e2]
    refine nm_r e3 (br_f (nI_nle (by omega) (by omega)) (br_f (show ¬ nI 2147483639 < nI (sb_cap q m) from nI_nlt (by omega) (by decide)) ?_))
    refine br_f (fun z9 => by have := (nI_eq (by omega) (by decide)).mp (show nI (sb_cap q m) = nI 2147483647 from z9); omega) ?_
    rw [sb_shr0]
    refine ⟨mc, ms, by omega, by omega, ?_⟩
    rw [sb_shl0]
    exact sb_copyOf (by omega) hr'.2.2 hf hr'.1 hr'.2.1 (hp _ (sb_fitC hf sb_fit0) (fun j hj => sb_cpy0 hj))
/-- StringBuilder.append(char), a Latin-1 letter c -/
theorem sb_appendChar {post : StJ4ec0e → Prop} {mc ms : Nat} {ml : Int32} {t : Nat → Nat} {a : Nat → Int32} {n m c : Nat} (hnm : n ≤ m) (hm : m ≤ 65536) (hL : sb_Lat t n a) (hf : sb_Fit a) (hc : c < 256) (hr : sb_Room (n + 1) m mc ms)
    (hp : ∀ a', sb_Lat (sb_cat t n (fun _ => c)) (n + 1) a' → sb_Fit a' → post (0, ml, nI (n + 1), a', sb_cap (n + 1) m)) : wpJ4_append_cf468_b0715 post mc ms (0, ml, nI n, a, m) (nI c) := by
  have hg := sb_cap_ge (n + 1) m
  have hl := sb_cap_le hm hr
  refine ⟨mc, ms, by omega, by omega, mc, ms, by omega, by omega, ?_⟩
  rw [nI_1]
  refine sb_ensure hm (by omega) hf hr (fun a' hf' hk => ?_)
  refine br_t rfl (br_f (by decide) ?_)
  refine br_f (show ¬ nI 255 < nI c from nI_nlt (by omega) (by decide)) (br_f (by decide) ?_)
  refine nm_r (nI_1 n) ⟨vp_in_nI (by omega) (by omega), nm_r (e' := upd a' n (sb_b c)) (by rw [nI_clamp (by omega), pk_vb]; rfl) ?_⟩
  refine hp _ (sb_latPut hL (fun j hj => ?_) (fun i hi => ?_)) (sb_fitU hf' (sb_fitB c))
  · rw [pk_un (by omega)]
    exact hk j (by omega)
  · obtain rfl : i = 0 := by omega
    exact ⟨hc, pk_us⟩
theorem sb_copyRange {post : StJefc9b → Prop} {mc ms : Nat} {a : Nat → Int32} {n m : Nat} (hnm : n ≤ m) (hm : m ≤ 65536) (hf : sb_Fit a) (hmc : 1 ≤ mc) (hms : n ≤ ms)
    (hp : ∀ a', sb_Fit a' → (∀ j, j < n → a' j = a j) → post (a, m, a', n)) : wpJ7_copyOfRange_39247_f5dda post mc ms (a, m) 0 (nI n) := by
  refine br_t rfl (pk_eq n m (fun e => ?_) (fun e => ?_))
  · subst e
    exact ⟨fun i _ => hf i, hmc, by omega, hp a hf (fun _ _ => rfl)⟩
  · have ei : (if nI n < (Int32.ofNat m - 0) then nI n else (Int32.ofNat m - 0)) = nI n := by
      rw [show Int32.ofNat m - 0 = nI m from pk_sub (a := m) (b := 0) (by omega)]
      exact if_pos (nI_lt (by omega) (by omega))
    refine ⟨mc, ms, by omega, by omega, br_t (nI_pos' (by omega)) (nm_r (e' := nI n) (pk_sub (a := n) (b := 0) (by omega)) ⟨nI_pos (by omega), nm_r (nI_clamp (by omega)) ⟨by omega, hmc, by omega, ?_⟩⟩)⟩
    rw [ei, nI_clamp (n := n) (by omega), sb_cl0]
    exact ⟨by decide, by decide, nI_pos (by omega), by omega, by omega, fun i _ => hf _, nm_e (hp _ (sb_fitC hf sb_fit0) (fun j hj => sb_cpy0 hj))⟩
/-- StringBuilder.toString -/
theorem sb_toString {post : StJ9c5ae → Prop} {mc ms : Nat} {ml : Int32} {t : Nat → Nat} {a : Nat → Int32} {n m : Nat} (hnm : n ≤ m) (hm : m ≤ 65536) (hL : sb_Lat t n a) (hf : sb_Fit a) (hmc : 2 ≤ mc) (hms : n + 4 ≤ ms)
    (hp : ∀ a', sb_Lat t n a' → sb_Fit a' → post (0, ml, nI n, a, m, 0, 0, 0, a', n)) : wpJ4_toString_0e30d_76c3d post mc ms (0, ml, nI n, a, m) := by
  refine ⟨by omega, by omega, mc - 1, ms - 4, by omega, by omega, mc - 1, ms - 4, by omega, by omega, br_t rfl (br_f (by decide) ⟨mc - 1, ms - 4, by omega, by omega, ?_⟩)⟩
  exact sb_copyRange hnm hm hf (by omega) (by omega) (fun a' hf' hk => hp a' (sb_latKeep hL hk) hf')
/-- String.equals of two Strings with the same bytes -/
theorem sv_equals {post : Int32 → Prop} {h z h' z' : Int32} {a a' : Nat → Int32} {n : Nat} (hn : n ≤ 65536) (he : ∀ j, j < n → a j = a' j) (hp : post 1) : wpJ0_equals_9ea2d_d3b40 post (0, h, z, a, n, 0, h', z', a', n) := by
  have L : ∀ (P : Int32 → Prop), P 1 → ∀ (d k : Nat), k + d = n → wJ1_equals_b5fdf_9f0d2_9 P a n a' n (d + 1) (nI k) := by
    intro P h1 d
    induction d with
    | zero =>
      intro k hk
      rw [wJ1_equals_b5fdf_9f0d2_9]
      exact br_t ((nI_leI (by omega) (by omega)).mpr (by omega)) h1
    | succ d ih =>
      intro k hk
      rw [wJ1_equals_b5fdf_9f0d2_9]
      refine br_f (nI_ge (by omega) (by omega)) ⟨vp_in_nI (by omega) (by omega), vp_in_nI (by omega) (by omega), br_t ?_ (nm_r (nI_1 k) (ih (k + 1) (by omega)))⟩
      rw [nI_clamp (by omega)]
      exact he k (by omega)
  exact br_t rfl (br_t rfl ⟨n + 1, L _ (br_f (by decide) hp) n 0 (by omega)⟩)
end
section
/-- the letter of a hex digit -/
def hx_c (d : Nat) : Nat := if d < 10 then 48 + d else 87 + d
/-- the last n hex digits of v, the highest first, as letters -/
def hx_t (v n : Nat) : Nat → Nat := fun j => hx_c (v / 16 ^ (n - 1 - j) % 16)
/-- v is written in n hex digits (0 in one) -/
def hx_N (v n : Nat) : Prop := 1 ≤ n ∧ v < 16 ^ n ∧ (n = 1 ∨ 16 ^ (n - 1) ≤ v)
/-- the twin's loop with i digits to go: v is what stands above them, n of its digits are written -/
def hx_I (i v n : Nat) : Prop := (hx_N v n ∧ (v ≠ 0 ∨ i = 0)) ∨ (n = 0 ∧ v = 0 ∧ i ≠ 0)
theorem hx_c256 {d : Nat} (h : d < 16) : hx_c d < 256 := by
  unfold hx_c
  split <;> omega
theorem hx_t256 (v n j : Nat) : hx_t v n j < 256 := hx_c256 (Nat.mod_lt _ (by decide))
theorem hx_le {v n m : Nat} (h : hx_N v n) (h' : hx_N v m) : n ≤ m := by
  obtain ⟨a1, a2, a3⟩ := h
  obtain ⟨b1, b2, b3⟩ := h'
  rcases a3 with e | e
  · omega
  · rcases Nat.lt_or_ge m n with z | z
    · have h9 : 16 ^ m ≤ 16 ^ (n - 1) := Nat.pow_le_pow_right (by decide) (by omega)
      exact absurd (Nat.lt_of_lt_of_le b2 (Nat.le_trans h9 e)) (Nat.lt_irrefl v)
    · exact z
theorem hx_one {v n m : Nat} (h : hx_N v n) (h' : hx_N v m) : n = m := Nat.le_antisymm (hx_le h h') (hx_le h' h)
theorem hx_t_lo {v n j : Nat} (h : j < n) : hx_t v (n + 1) j = hx_t (v / 16) n j := by
  unfold hx_t
  rw [show n + 1 - 1 - j = (n - 1 - j) + 1 by omega, Nat.pow_succ, Nat.mul_comm, ← Nat.div_div_eq_div_mul]
theorem hx_t_hi (v n : Nat) : hx_t v (n + 1) n = hx_c (v % 16) := by
  unfold hx_t
  rw [show n + 1 - 1 - n = 0 by omega, Nat.pow_zero, Nat.div_one]
theorem hx_m (c k : Nat) (h : k ≤ c) : nI c + (-nI k) = nI (c - k) := by
  rw [← Int32.sub_eq_add_neg]
  exact pk_sub h
theorem hx_of (x : Int32) : ∃ w, w < 2 ^ 32 ∧ x = nI w := by
  refine ⟨x.toBitVec.toNat, x.toBitVec.isLt, ?_⟩
  apply Int32.toBitVec_inj.mp
  apply BitVec.eq_of_toNat_eq
  rw [pk_tn x.toBitVec.isLt]
theorem hx_tab : ∀ d, d < 16 → vp_nar .byte ((tabJ378e2.getD d 0).toInt8.toInt32) = sb_b (hx_c d) := by decide +kernel
theorem hx_sg : ∀ d, d < 16 → (10 ≤ d → (((97 + nI d) - 10).toUInt32 % 65536).toInt32 = nI (hx_c d)) ∧ (d < 10 → ((48 + nI d).toUInt32 % 65536).toInt32 = nI (hx_c d)) := by decide +kernel
theorem hx_sm : ∀ i, i < 8 → ((nI (4 * i) &&& 31).toBitVec.smod 32).toNat = 4 * i := by decide +kernel
theorem hx_toI {w : Nat} (hw : w < 2 ^ 32) : (nI w).toInt = if w < 2147483648 then (w : Int) else (w : Int) - 4294967296 := by
  show (nI w).toBitVec.toInt = _
  rw [BitVec.toInt_eq_toNat_cond, pk_tn hw]
  split <;> split <;> omega
theorem hx_neg {w : Nat} (hw : w < 2 ^ 32) (h : 2 ^ 31 ≤ w) : nI w < 0 := by
  rw [Int32.lt_iff_toInt_lt, hx_toI hw, Int32.toInt_zero]
  split <;> omega
theorem hx_dg0 {X W q : Int} {x w D E : Nat} (hX : X = if x < 2147483648 then (x : Int) else (x : Int) - 4294967296) (hW : W = if w < 2147483648 then (w : Int) else (w : Int) - 4294967296) (hD : (D : Int) * (16 * E) = 4294967296) (hq : q = W / D) (e : X = q) : x % 16 = w / D % 16 := by
  have hD0 : (D : Int) ≠ 0 := by
    intro z
    rw [z, Int.zero_mul] at hD
    exact absurd hD (by decide)
  have h1 : ((x : Int)) % 16 = X % 16 := by
    rw [hX]
    split <;> omega
  have h2 : (W / D) % 16 = ((w : Int) / D) % 16 := by
    rw [hW]
    split
    · rfl
    · rw [← hD, Int.sub_eq_add_neg, ← Int.mul_neg, Int.add_mul_ediv_left _ _ hD0]
      omega
  have h3 : ((x : Int)) % 16 = ((w : Int) / D) % 16 := by rw [h1, e, hq, h2]
  have h4 : ((x % 16 : Nat) : Int) = ((w / D % 16 : Nat) : Int) := h3
  exact Int.ofNat.inj h4
/-- the twin's digit i of x: the arithmetic shift's sign doesn't reach it -/
theorem hx_dig {w i : Nat} (hw : w < 2 ^ 32) (hi : i < 8) : (nI w >>> (nI (4 * i) &&& 31)) &&& 15 = nI (w / 16 ^ i % 16) := by
  rw [pk_and _ 4 (by decide)]
  have h1 := pk_shr (nI w) (nI (4 * i) &&& 31) (4 * i) (hx_sm i hi)
  rw [Int.shiftRight_eq_div_pow] at h1
  have h2 : (nI w >>> (nI (4 * i) &&& 31)).toInt = if (nI w >>> (nI (4 * i) &&& 31)).toBitVec.toNat < 2147483648 then ((nI w >>> (nI (4 * i) &&& 31)).toBitVec.toNat : Int) else ((nI w >>> (nI (4 * i) &&& 31)).toBitVec.toNat : Int) - 4294967296 := by
    show (nI w >>> (nI (4 * i) &&& 31)).toBitVec.toInt = _
    rw [BitVec.toInt_eq_toNat_cond]
    split <;> split <;> omega
  have h3 : (2 ^ (4 * i) : Nat) = 16 ^ i := by rw [Nat.pow_mul]
  have h4 : ((16 ^ i : Nat) : Int) * (16 * ((16 ^ (7 - i) : Nat) : Int)) = 4294967296 := by
    have h5 : 16 ^ i * (16 * 16 ^ (7 - i)) = 4294967296 := by
      rw [Nat.mul_comm 16, ← Nat.pow_succ, ← Nat.pow_add, show i + (7 - i).succ = 8 by omega]
    exact congrArg Int.ofNat h5
  refine congrArg nI (hx_dg0 h2 (hx_toI hw) h4 rfl ?_)
  rw [h1, h3]
theorem hx_x3 : ∀ b, b < 33 → (if ((nI b + (4 - 1)) / 4) < (1 : Int32) then 1 else ((nI b + (4 - 1)) / 4)) = nI (if (b + 3) / 4 < 1 then 1 else (b + 3) / 4) := by decide +kernel
theorem hx_x2 : ∀ b, b < 33 → (32 : Int32) - nI (32 - b) = nI b := by decide +kernel
theorem hx_p {L v k : Nat} (a : 2 ^ L ≤ v / 2 ^ k) (b : v / 2 ^ k < 2 ^ (L + 1)) : 2 ^ (L + k) ≤ v ∧ v < 2 ^ (L + k + 1) := by
  rw [Nat.le_div_iff_mul_le (Nat.two_pow_pos k), ← Nat.pow_add] at a
  rw [Nat.div_lt_iff_lt_mul (Nat.two_pow_pos k), ← Nat.pow_add, show L + 1 + k = L + k + 1 by omega] at b
  exact ⟨a, b⟩
theorem hx_16 (k : Nat) : 16 ^ k = 2 ^ (4 * k) := by rw [Nat.pow_mul]
/-- b bits make this many hex digits -/
theorem hx_bits {w b : Nat} (hb : b ≤ 32) (h1 : w < 2 ^ b) (h2 : b = 0 ∨ 2 ^ (b - 1) ≤ w) : hx_N w (if (b + 3) / 4 < 1 then 1 else (b + 3) / 4) ∧ (if (b + 3) / 4 < 1 then 1 else (b + 3) / 4) ≤ 8 := by
  by_cases h : (b + 3) / 4 < 1
  · rw [if_pos h]
    have hb0 : b = 0 := by omega
    subst hb0
    exact ⟨⟨by decide, by omega, Or.inl rfl⟩, by decide⟩
  · rw [if_neg h]
    refine ⟨⟨by omega, ?_, ?_⟩, by omega⟩
    · rw [hx_16]
      exact Nat.lt_of_lt_of_le h1 (Nat.pow_le_pow_right (by decide) (by omega))
    · rcases h2 with e | e
      · omega
      · refine Or.inr (Nat.le_trans ?_ e)
        rw [hx_16]
        exact Nat.pow_le_pow_right (by decide) (by omega)
theorem hx_lat {v n : Nat} {a : Nat → Int32} (h : sb_Lat (sb_cat (hx_t (v / 16) n) n (fun _ => hx_c (v % 16))) (n + 1) a) : sb_Lat (hx_t v (n + 1)) (n + 1) a := by
  intro j hj
  obtain ⟨h1, h2⟩ := h j hj
  refine ⟨hx_t256 _ _ _, ?_⟩
  rw [h2]
  by_cases e : j < n
  · rw [sb_cat_lo e, hx_t_lo e]
  · obtain rfl : j = n := by omega
    rw [hx_t_hi]
    exact congrArg sb_b (sb_cat_hi (j := 0))
theorem hx_step {i v n : Nat} (h : hx_I (i + 1) (v / 16) n) (hc : 0 < n ∨ v % 16 ≠ 0 ∨ i = 0) : hx_I i v (n + 1) := by
  rcases h with ⟨⟨a1, a2, a3⟩, a4⟩ | ⟨b1, b2, b3⟩
  · have h0 : v / 16 ≠ 0 := by omega
    refine Or.inl ⟨⟨by omega, ?_, Or.inr ?_⟩, by omega⟩
    · rw [Nat.pow_succ]
      omega
    · rw [Nat.add_sub_cancel]
      rcases a3 with e | e
      · rw [e]
        omega
      · rw [show n = (n - 1) + 1 by omega, Nat.pow_succ]
        omega
  · subst b1
    exact Or.inl ⟨⟨by omega, by omega, Or.inl rfl⟩, by omega⟩
theorem hx_skip {i v n : Nat} (h : hx_I (i + 1) (v / 16) n) (hn : n ≤ 0) (hd : v % 16 = 0) (hi : i ≠ 0) : n = 0 ∧ hx_I i v 0 := by
  rcases h with ⟨⟨a1, a2, a3⟩, a4⟩ | ⟨b1, b2, b3⟩
  · omega
  · exact ⟨b1, Or.inr ⟨rfl, by omega, hi⟩⟩
end
section
theorem nz_61 {post : Int32 → Prop} {v c : Nat} (h1 : 1 ≤ v) (h2 : v < 16) (hc : 3 ≤ c) (hp : ∀ L, L ≤ c → 2 ^ L ≤ v → v < 2 ^ (L + 1) → post (nI (c - L))) : wJ6_numberOfLeadingZeros_0f7a4_565d2_61 post (nI v) (nI c) := by
  unfold wJ6_numberOfLeadingZeros_0f7a4_565d2_61
  refine pk_lt v 4 (fun h => ?_) (fun h => nm_r (hx_m c 2 (by omega)) (nm_r (pk_ushrN (by omega) 2 2 (by decide)) ?_))
  · rw [pk_ushrN (by omega) 1 1 (by decide), pk_sub (by omega)]
    obtain e | e : v / 2 ^ 1 = 0 ∨ v / 2 ^ 1 = 1 := by omega
    · rw [e]
      exact hp 0 (by omega) (by omega) (by omega)
    · rw [e]
      exact hp 1 (by omega) (by omega) (by omega)
  · rw [pk_ushrN (by omega) 1 1 (by decide), pk_sub (by omega), Nat.sub_sub]
    obtain e | e : v / 2 ^ 2 / 2 ^ 1 = 0 ∨ v / 2 ^ 2 / 2 ^ 1 = 1 := by omega
    · rw [e]
      exact hp 2 (by omega) (by omega) (by omega)
    · rw [e]
      exact hp 3 (by omega) (by omega) (by omega)
theorem nz_48 {post : Int32 → Prop} {v c : Nat} (h1 : 1 ≤ v) (h2 : v < 256) (hc : 7 ≤ c) (hp : ∀ L, L ≤ c → 2 ^ L ≤ v → v < 2 ^ (L + 1) → post (nI (c - L))) : wJ6_numberOfLeadingZeros_0f7a4_565d2_48 post (nI v) (nI c) := by
  unfold wJ6_numberOfLeadingZeros_0f7a4_565d2_48
  refine pk_lt v 16 (fun h => nz_61 h1 h (by omega) hp) (fun h => nm_r (hx_m c 4 (by omega)) (nm_r (pk_ushrN (by omega) 4 4 (by decide)) (nz_61 (by omega) (by omega) (by omega) (fun L l a b => ?_))))
  rw [Nat.sub_sub, Nat.add_comm]
  exact hp (L + 4) (by omega) (hx_p a b).1 (hx_p a b).2
theorem nz_33 {post : Int32 → Prop} {v c : Nat} (h1 : 1 ≤ v) (h2 : v < 65536) (hc : 15 ≤ c) (hp : ∀ L, L ≤ c → 2 ^ L ≤ v → v < 2 ^ (L + 1) → post (nI (c - L))) : wJ6_numberOfLeadingZeros_0f7a4_565d2_33 post (nI v) (nI c) := by
  unfold wJ6_numberOfLeadingZeros_0f7a4_565d2_33
  refine pk_lt v 256 (fun h => nz_48 h1 h (by omega) hp) (fun h => nm_r (hx_m c 8 (by omega)) (nm_r (pk_ushrN (by omega) 8 8 (by decide)) (nz_48 (by omega) (by omega) (by omega) (fun L l a b => ?_))))
  rw [Nat.sub_sub, Nat.add_comm]
  exact hp (L + 8) (by omega) (hx_p a b).1 (hx_p a b).2
/-- Integer.numberOfLeadingZeros: 32 less the number of bits b -/
theorem nz_all {post : Int32 → Prop} {w : Nat} (hw : w < 2 ^ 32) (hp : ∀ b, b ≤ 32 → w < 2 ^ b → (b = 0 ∨ 2 ^ (b - 1) ≤ w) → post (nI (32 - b))) : wpJ6_numberOfLeadingZeros_0f7a4_565d2 post () (nI w) := by
  unfold wpJ6_numberOfLeadingZeros_0f7a4_565d2
  have hq : ∀ L, L ≤ 31 → 2 ^ L ≤ w → w < 2 ^ (L + 1) → post (nI (31 - L)) := by
    intro L l a b
    rw [show 31 - L = 32 - (L + 1) by omega]
    exact hp (L + 1) (by omega) b (Or.inr a)
  by_cases h : w < 2 ^ 31
  · refine pk_lt 0 w (fun h0 => ?_) (fun h0 => pk_eq w 0 (fun e => ?_) (fun e => absurd h0 (by omega)))
    · refine pk_lt w 65536 (fun g => nz_33 (c := 31) h0 g (by decide) hq) (fun g => nm_r (e' := nI 15) (by decide) (nm_r (pk_ushrN hw 16 16 (by decide)) (nz_33 (by omega) (by omega) (by decide) (fun L l a b => ?_))))
      rw [show 15 - L = 31 - (L + 16) by omega]
      exact hq (L + 16) (by omega) (hx_p a b).1 (hx_p a b).2
    · exact hp 0 (by decide) (by omega) (Or.inl rfl)
  · have hn := hx_neg hw (by omega)
    refine br_f (fun z => ?_) (br_f (fun z => ?_) (hq 31 (by decide) (by omega) hw))
    · rw [Int32.lt_iff_toInt_lt] at hn z
      omega
    · rw [z] at hn
      exact absurd hn (by decide)
/-- Integer.formatUnsignedInt's loop, 4 bits a digit, p + 1 digits, backwards -/
theorem hx_fmt {P : StJf0261 → Prop} {m : Nat} (hm : m ≤ 65536) : ∀ (p v : Nat) (a : Nat → Int32), p + 1 ≤ m → v < 2 ^ 32 →
    (∀ a', (∀ j, j < p + 1 → a' j = sb_b (hx_t v (p + 1) j)) → (∀ j, p + 1 ≤ j → a' j = a j) → P (a', m)) → wJ6_formatUnsignedInt_567d9_278ac_14 P 4 15 m (p + 1) (nI v) (nI (p + 1)) a := by
  intro p
  induction p with
  | zero =>
    intro v a hpm hv hP
    have ea : nI v &&& 15 = nI (v % 2 ^ 4) := pk_andN hv 4 (by decide)
    rw [wJ6_formatUnsignedInt_567d9_278ac_14]
    dsimp only
    rw [ea]
    refine nm_r (pk_m1 0) ⟨vp_in_nI (by omega) (by decide), vp_in_nI (by omega) (by omega), ?_⟩
    refine nm_r (e' := upd a 0 (sb_b (hx_c (v % 16)))) (by rw [nI_clamp (by omega), nI_clamp (by omega)]; exact congrArg (upd a 0) (hx_tab _ (by omega))) (nm_e (br_f (by decide) ?_))
    refine hP _ (fun j hj => ?_) (fun j hj => pk_un (by omega))
    obtain rfl : j = 0 := by omega
    rw [pk_us, hx_t_hi]
  | succ p ih =>
    intro v a hpm hv hP
    have ea : nI v &&& 15 = nI (v % 2 ^ 4) := pk_andN hv 4 (by decide)
    rw [wJ6_formatUnsignedInt_567d9_278ac_14]
    dsimp only
    rw [ea]
    refine nm_r (pk_m1 (p + 1)) ⟨vp_in_nI (by omega) (by decide), vp_in_nI (by omega) (by omega), ?_⟩
    refine nm_r (e' := upd a (p + 1) (sb_b (hx_c (v % 16)))) (by rw [nI_clamp (by omega), nI_clamp (by omega)]; exact congrArg (upd a (p + 1)) (hx_tab _ (by omega))) (nm_r (pk_ushrN hv 4 4 (by decide)) (br_t (show nI 0 < nI (p + 1) from nI_lt (by omega) (by omega)) ?_))
    refine ih (v / 2 ^ 4) _ (by omega) (by omega) (fun a' h1 h2 => hP a' (fun j hj => ?_) (fun j hj => ?_))
    · by_cases e : j < p + 1
      · rw [h1 j e, hx_t_lo e]
      · obtain rfl : j = p + 1 := by omega
        rw [h2 _ (by omega), pk_us, hx_t_hi]
    · rw [h2 j (by omega), pk_un (by omega)]
/-- Integer.toUnsignedString0 of 4 bits a digit -/
theorem hx_tus {post : StJd4992 → Prop} {mc ms w : Nat} (hw : w < 2 ^ 32) (hmc : 2 ≤ mc) (hms : 12 ≤ ms) (hp : ∀ n a, hx_N w n → n ≤ 8 → sb_Lat (hx_t w n) n a → post (0, 0, 0, a, n)) : wpJ6_toUnsignedString0_37a41_48e5c post mc ms () (nI w) 4 := by
  unfold wpJ6_toUnsignedString0_37a41_48e5c
  refine nz_all hw (fun b hb h1 h2 => ?_)
  obtain ⟨hN, h8⟩ := hx_bits hb h1 h2
  refine nm_r (hx_x2 b (by omega)) ⟨by decide, nm_r (hx_x3 b (by omega)) ?_⟩
  generalize (if (b + 3) / 4 < 1 then 1 else (b + 3) / 4) = n at hN h8
  obtain ⟨p, rfl⟩ : ∃ p, n = p + 1 := ⟨n - 1, by have := hN.1; omega⟩
  refine ⟨nI_pos (by omega), nm_r (nI_clamp (by omega)) ⟨by omega, by omega, by omega, ?_⟩⟩
  refine nm_r (e' := 16) (by decide) (nm_r (e' := 15) (by decide) ⟨p + 1, ?_⟩)
  refine hx_fmt (by omega) p w _ (by omega) hw (fun a' h3 h4 => ⟨hmc, by omega, by decide, by decide, ?_⟩)
  exact hp (p + 1) a' hN h8 (fun j hj => ⟨hx_t256 _ _ _, h3 j hj⟩)
/-- the component's hex -/
theorem hx_x0 {post : St1 → Prop} {mc ms w : Nat} (hw : w < 2 ^ 32) (hmc : 2 ≤ mc) (hms : 12 ≤ ms) (hp : ∀ n a, hx_N w n → n ≤ 8 → sb_Lat (hx_t w n) n a → post (0, 0, 0, a, n)) : wpX0_hex post mc ms () (nI w) :=
  ⟨mc, ms, by omega, by omega, mc, ms, by omega, by omega, hx_tus hw hmc hms hp⟩
theorem hx_sign {post : Int32 → Prop} {d : Nat} (hd : d < 16) (hp : post (nI (hx_c d))) : wpX1_sign post () (nI d) :=
  pk_le 10 d (fun h => sb_at (P := post) ((hx_sg d hd).1 h) hp) (fun h => sb_at (P := post) ((hx_sg d hd).2 h) hp)
/-- the twin's loop, i digits to go -/
theorem hx_loop {post : St1 → Prop} {mc ms kc ks w : Nat} {ml : Int32} (hw : w < 2 ^ 32) (hmc : kc + 2 ≤ mc) (hms : ks + 12 ≤ ms) (hp : ∀ n a, hx_N w n → sb_Lat (hx_t w n) n a → post (0, 0, 0, a, n)) :
    ∀ (i n : Nat) (a : Nat → Int32), n + i ≤ 8 → hx_I i (w / 16 ^ i) n → sb_Lat (hx_t (w / 16 ^ i) n) n a → sb_Fit a → wX1_hex_11 post mc ms (nI w) (i + 1) (nI (4 * i) + (-4)) kc ks 0 ml (nI n) a 16 := by
  intro i
  induction i with
  | zero =>
    intro n a hn hI hL hf
    rw [Nat.pow_zero, Nat.div_one] at hI hL
    have hN : hx_N w n := by
      rcases hI with h | h
      · exact h.1
      · exact absurd rfl h.2.2
    rw [wX1_hex_11]
    exact br_t (by decide) ⟨2, 12, by omega, by omega, sb_toString (by omega) (by omega) hL hf (by omega) (by omega) (fun a' hL' _ => hp n a' hN hL')⟩
  | succ i ih =>
    intro n a hn hI hL hf
    rw [Nat.pow_succ, ← Nat.div_div_eq_div_mul] at hI hL
    have hd : w / 16 ^ i % 16 < 16 := Nat.mod_lt _ (by decide)
    rw [show nI (4 * (i + 1)) + (-4) = nI (4 * i) from hx_m (4 * (i + 1)) 4 (by omega)]
    have A : (0 < n ∨ w / 16 ^ i % 16 ≠ 0 ∨ i = 0) → wX1_hex_37 post mc ms (wX1_hex_11 post mc ms (nI w) (i + 1)) (nI w) (nI (4 * i)) (nI (w / 16 ^ i % 16)) kc ks 0 ml (nI n) a 16 := by
      intro hc
      unfold wX1_hex_37
      refine hx_sign hd ⟨0, 0, by omega, by omega, sb_appendChar (by omega) (by omega) hL hf (hx_c256 hd) (Or.inl (by omega)) (fun a' hL' hf' => ?_)⟩
      rw [show sb_cap (n + 1) 16 = 16 from if_pos (by omega)]
      exact nm_e (ih (n + 1) a' (by omega) (hx_step hI hc) (hx_lat hL') hf')
    rw [wX1_hex_11]
    refine br_f (nI_pos (by omega)) (nm_r (hx_dig hw (by omega)) ?_)
    refine pk_eq (w / 16 ^ i % 16) 0 (fun e => ?_) (fun e => A (Or.inr (Or.inl e)))
    refine pk_lt 0 n (fun h => A (Or.inl h)) (fun h => pk_eq (4 * i) 0 (fun g => A (Or.inr (Or.inr (by omega)))) (fun g => nm_e ?_))
    obtain ⟨h1, h2⟩ := hx_skip hI h e (by omega)
    subst h1
    exact ih 0 a (by omega) h2 (fun j hj => absurd hj (Nat.not_lt_zero j)) hf
/-- the twin's hex -/
theorem hx_x1 {post : St1 → Prop} {mc ms w : Nat} (hw : w < 2 ^ 32) (hmc : 4 ≤ mc) (hms : 32 ≤ ms) (hp : ∀ n a, hx_N w n → sb_Lat (hx_t w n) n a → post (0, 0, 0, a, n)) : wpX1_hex post mc ms () (nI w) := by
  refine ⟨by omega, by omega, 1, 16, by omega, by omega, 1, 16, by omega, by omega, by decide, nm_r (e' := 16) (by decide) ⟨by omega, by omega, by omega, 9, ?_⟩⟩
  have e : (28 : Int32) = nI (4 * 8) + (-4) := by decide
  rw [e]
  exact hx_loop hw (by omega) (by omega) hp 8 0 _ (by omega) (Or.inr ⟨rfl, by omega, by omega⟩) (fun j hj => absurd hj (Nat.not_lt_zero j)) sb_fit0
end
section
theorem hx_law {post : Int32 → St0 → Prop} (z : Int32) (hp : post 1 ()) : wL_lawOf_17 post 10 152 z 0 0 := by
  obtain ⟨w, hw, rfl⟩ := hx_of z
  refine ⟨2, 12, by omega, by omega, hx_x0 hw (by omega) (by omega) (fun n a hN h8 hL => ⟨4, 32, by omega, by omega, hx_x1 hw (by omega) (by omega) (fun n' a' hN' hL' => ?_)⟩)⟩
  obtain rfl := hx_one hN hN'
  exact sv_equals (by omega) (fun j hj => by rw [(hL j hj).2, (hL' j hj).2]) ⟨by decide, hp⟩
theorem hx_cell {post : Int32 → Prop} {L : Nat} {xs : Nat → Int32} (hL : L ≤ 2) (p : Nat) (hp : p ≤ 1) (h : ∀ x, post x) : wpL_cellAt post L xs () (nI p) :=
  pk_le L p (fun _ => h 0) (fun z => ⟨pk_in p L z, h _⟩)
theorem i_vc (xs : Nat → Int32) (L : Nat) (hL : L ≤ 2) : wpL_law (fun r => r = 1) L xs :=
  hx_cell hL 0 (by omega) (fun _ => hx_cell hL 1 (by omega) (fun _ => ⟨10, 152, by omega, by omega, br_c (fun _ => hx_law _ rfl) (fun _ => hx_law _ rfl)⟩))
end
