section
/-! rows of the kit's STRINGBUILDER-LAWS.1, as given -/
theorem sb_copyOf {post : StJefc9b → Prop} {mc ms : Nat} {a : Nat → Int32} {m q : Nat} (h : m < q) (hq : q ≤ 65536) (hf : sb_Fit a) (hmc : 1 ≤ mc) (hms : q ≤ ms)
    (hp : post (a, m, va_cpy a (fun _ => 0) 0 0 m, q)) : wpJ7_copyOf_9075b_9260e post mc ms (a, m) (nI q) := by
  have ei : (if nI q < Int32.ofNat m then nI q else Int32.ofNat m) = nI m := if_neg (nI_nlt (by omega) (by omega))
  have ec : (nI m).toNatClampNeg = m := nI_clamp (by omega)
  refine br_f (fun z => by have := (nI_eq (by omega) (by omega)).mp (show nI q = nI m from z); omega) ⟨nI_pos (by omega), nm_r (nI_clamp (by omega)) ⟨by omega, hmc, by omega, ?_⟩⟩
  rw [ei, ec, sb_cl0]
  exact ⟨by decide, by decide, nI_pos (by omega), by omega, by omega, fun i _ => hf _, nm_e hp⟩
/-- AbstractStringBuilder.ensureCapacityInternal, of Latin-1 bytes -/
theorem sb_ensure {post : StJ4ec0e → Prop} {mc ms : Nat} {ml z : Int32} {a : Nat → Int32} {m q : Nat} (hm : m ≤ 65536) (hq : q < 2 ^ 28) (hf : sb_Fit a) (hr : sb_Room q m mc ms)
    (hp : ∀ a', sb_Fit a' → (∀ j, j < m → a' j = a j) → post (0, ml, z, a', sb_cap q m)) : wpJ5_ensureCapacityInternal_d00df_b0715 post mc ms (0, ml, z, a, m) (nI q) := by
  have e1 : (nI q - Int32.ofNat m).toInt = (q : Int) - m := pk_sub_toInt (by omega) (by omega)
  refine nm_r (sb_shr0 (Int32.ofNat m)) ?_
  by_cases h : q ≤ m
  · refine br_t (by rw [Int32.le_iff_toInt_le, e1, Int32.toInt_zero]; omega) ?_
    have h9 := hp a hf (fun _ _ => rfl)
    rw [sb_cap, if_pos h] at h9
    exact h9
  · have hr' : 1 ≤ mc ∧ sb_cap q m ≤ ms ∧ sb_cap q m ≤ 65536 := hr.resolve_left h
    have hc : sb_cap q m = m + (if q - m < m + 2 then m + 2 else q - m) := by
      unfold sb_cap
      rw [if_neg h]
      split <;> split <;> omega
    have hg := sb_cap_ge q m
    refine br_f (fun hc => h (by rw [Int32.le_iff_toInt_le, e1, Int32.toInt_zero] at hc; omega)) ?_
    have e2 : Int32.ofNat m + ((2 : Int32) <<< ((0 : Int32) &&& 31)) = nI (m + 2) := by
      rw [sb_shl0]
      exact nI_add m 2
    have e3 : Int32.ofNat m + (if nI (q - m) < nI (m + 2) then nI (m + 2) else nI (q - m)) = nI (sb_cap q m) := by
      rw [hc]
      by_cases h2 : q - m < m + 2
      · rw [if_pos h2, if_pos (nI_lt h2 (by omega))]
        exact nI_add m (m + 2)
      · rw [if_neg h2, if_neg (nI_nlt (by omega) (by omega))]
        exact nI_add m (q - m)
    refine nm_e (nm_r (sb_shl0 (nI q)) (nm_r (show nI q - nI m = nI (q - m) from pk_sub (by omega)) ?_))
    rw [e2]
    refine nm_r e3 (br_f (nI_nle (by omega) (by omega)) (br_f (show ¬ nI 2147483639 < nI (sb_cap q m) from nI_nlt (by omega) (by decide)) ?_))
    refine br_f (fun z9 => by have := (nI_eq (by omega) (by decide)).mp (show nI (sb_cap q m) = nI 2147483647 from z9); omega) ?_
    rw [sb_shr0]
    refine ⟨mc, ms, by omega, by omega, ?_⟩
    rw [sb_shl0]
    exact sb_copyOf (by omega) hr'.2.2 hf hr'.1 hr'.2.1 (hp _ (sb_fitC hf sb_fit0) (fun j hj => sb_cpy0 hj))
/-- StringBuilder.append(char), a Latin-1 letter c -/
theorem sb_appendChar {post : StJ4ec0e → Prop} {mc ms : Nat} {ml : Int32} {t : Nat → Nat} {a : Nat → Int32} {n m c : Nat} (hnm : n ≤ m) (hm : m ≤ 65536) (hL : sb_Lat t n a) (hf : sb_Fit a) (hc : c < 256) (hr : sb_Room (n + 1) m mc ms)
    (hp : ∀ a', sb_Lat (sb_cat t n (fun _ => c)) (n + 1) a' → sb_Fit a' → post (0, ml, nI (n + 1), a', sb_cap (n + 1) m)) : wpJ4_append_cf468_b0715 post mc ms (0, ml, nI n, a, m) (nI c) := by
  have hg := sb_cap_ge (n + 1) m
  have hl := sb_cap_le hm hr
  refine ⟨mc, ms, by omega, by omega, mc, ms, by omega, by omega, ?_⟩
  rw [nI_1]
  refine sb_ensure hm (by omega) hf hr (fun a' hf' hk => ?_)
  refine br_t rfl (br_f (by decide) ?_)
  refine br_f (show ¬ nI 255 < nI c from nI_nlt (by omega) (by decide)) (br_f (by decide) ?_)
  refine nm_r (nI_1 n) ⟨vp_in_nI (by omega) (by omega), nm_r (e' := upd a' n (sb_b c)) (by rw [nI_clamp (by omega), pk_vb]; rfl) ?_⟩
  refine hp _ (sb_latPut hL (fun j hj => ?_) (fun i hi => ?_)) (sb_fitU hf' (sb_fitB c))
  · rw [pk_un (by omega)]
    exact hk j (by omega)
  · obtain rfl : i = 0 := by omega
    exact ⟨hc, pk_us⟩
theorem sb_copyRange {post : StJefc9b → Prop} {mc ms : Nat} {a : Nat → Int32} {n m : Nat} (hnm : n ≤ m) (hm : m ≤ 65536) (hf : sb_Fit a) (hmc : 1 ≤ mc) (hms : n ≤ ms)
    (hp : ∀ a', sb_Fit a' → (∀ j, j < n → a' j = a j) → post (a, m, a', n)) : wpJ7_copyOfRange_39247_f5dda post mc ms (a, m) 0 (nI n) := by
  refine br_t rfl (pk_eq n m (fun e => ?_) (fun e => ?_))
  · subst e
    exact ⟨fun i _ => hf i, hmc, by omega, hp a hf (fun _ _ => rfl)⟩
  · have ei : (if nI n < (Int32.ofNat m - 0) then nI n else (Int32.ofNat m - 0)) = nI n := by
      rw [show Int32.ofNat m - 0 = nI m from pk_sub (a := m) (b := 0) (by omega)]
      exact if_pos (nI_lt (by omega) (by omega))
    refine ⟨mc, ms, by omega, by omega, br_t (nI_pos' (by omega)) (nm_r (e' := nI n) (pk_sub (a := n) (b := 0) (by omega)) ⟨nI_pos (by omega), nm_r (nI_clamp (by omega)) ⟨by omega, hmc, by omega, ?_⟩⟩)⟩
    rw [ei, nI_clamp (n := n) (by omega), sb_cl0]
    exact ⟨by decide, by decide, nI_pos (by omega), by omega, by omega, fun i _ => hf _, nm_e (hp _ (sb_fitC hf sb_fit0) (fun j hj => sb_cpy0 hj))⟩
/-- StringBuilder.toString -/
theorem sb_toString {post : StJ9c5ae → Prop} {mc ms : Nat} {ml : Int32} {t : Nat → Nat} {a : Nat → Int32} {n m : Nat} (hnm : n ≤ m) (hm : m ≤ 65536) (hL : sb_Lat t n a) (hf : sb_Fit a) (hmc : 2 ≤ mc) (hms : n + 4 ≤ ms)
    (hp : ∀ a', sb_Lat t n a' → sb_Fit a' → post (0, ml, nI n, a, m, 0, 0, 0, a', n)) : wpJ4_toString_0e30d_76c3d post mc ms (0, ml, nI n, a, m) := by
  refine ⟨by omega, by omega, mc - 1, ms - 4, by omega, by omega, mc - 1, ms - 4, by omega, by omega, br_t rfl (br_f (by decide) ⟨mc - 1, ms - 4, by omega, by omega, ?_⟩)⟩
  exact sb_copyRange hnm hm hf (by omega) (by omega) (fun a' hf' hk => hp a' (sb_latKeep hL hk) hf')
/-- String.equals of two Strings with the same bytes -/
theorem sv_equals {post : Int32 → Prop} {h z h' z' : Int32} {a a' : Nat → Int32} {n : Nat} (hn : n ≤ 65536) (he : ∀ j, j < n → a j = a' j) (hp : post 1) : wpJ0_equals_9ea2d_d3b40 post (0, h, z, a, n, 0, h', z', a', n) := by
  have L : ∀ (P : Int32 → Prop), P 1 → ∀ (d k : Nat), k + d = n → wJ1_equals_b5fdf_9f0d2_9 P a n a' n (d + 1) (nI k) := by
    intro P h1 d
    induction d with
    | zero =>
      intro k hk
      rw [wJ1_equals_b5fdf_9f0d2_9]
      exact br_t ((nI_leI (by omega) (by omega)).mpr (by omega)) h1
    | succ d ih =>
      intro k hk
      rw [wJ1_equals_b5fdf_9f0d2_9]
      refine br_f (nI_ge (by omega) (by omega)) ⟨vp_in_nI (by omega) (by omega), vp_in_nI (by omega) (by omega), br_t ?_ (nm_r (nI_1 k) (ih (k + 1) (by omega)))⟩
      rw [nI_clamp (by omega)]
      exact he k (by omega)
  exact br_t rfl (br_t rfl ⟨n + 1, L _ (br_f (by decide) hp) n 0 (by omega)⟩)
/-- Integer.DigitOnes, Integer.DigitTens -/
theorem sb_tab : ∀ k, k < 100 → vp_nar .byte (tabJ4c4d6.getD k 0) = sb_b (48 + k % 10) ∧ vp_nar .byte (tabJe9b5b.getD k 0) = sb_b (48 + k / 10) := by decide +kernel
end
section
/-! ===== the pure picture: v has d + 1 decimal digits; the text ld_T v d s: s (0 or 1) signs, then the digits ===== -/
def ld_D (d v : Nat) : Prop := v < 10 ^ (d + 1) ∧ (d = 0 ∨ 10 ^ d ≤ v)
def ld_T (v d s : Nat) : Nat → Nat := fun j => if j < s then 45 else 48 + v / 10 ^ (s + d - j) % 10
theorem ld_T_lo {v d s j : Nat} (h : j < s) : ld_T v d s j = 45 := if_pos h
theorem ld_T_hi {v d s j : Nat} (h : s ≤ j) : ld_T v d s j = 48 + v / 10 ^ (s + d - j) % 10 := if_neg (by omega)
theorem ld_T_lt (v d s j : Nat) : ld_T v d s j < 256 := by
  unfold ld_T
  split
  · decide
  · have := Nat.mod_lt (v / 10 ^ (s + d - j)) (show 0 < 10 by decide)
    omega
theorem ld_ex : ∀ (n v : Nat), v < 10 ^ (n + 1) → ∃ d, d ≤ n ∧ ld_D d v := by
  intro n
  induction n with
  | zero => exact fun v h => ⟨0, Nat.le_refl 0, h, Or.inl rfl⟩
  | succ n ih =>
    intro v h
    by_cases h2 : v < 10 ^ (n + 1)
    · obtain ⟨d, h3, h4⟩ := ih v h2
      exact ⟨d, by omega, h4⟩
    · exact ⟨n + 1, Nat.le_refl _, h, Or.inr (Nat.le_of_not_lt h2)⟩
theorem ld_p0 (k : Nat) : 0 < 10 ^ k := Nat.pow_pos (by decide)
theorem ld_p1 (k : Nat) : 10 * 10 ^ k = 10 ^ (k + 1) := by
  rw [Nat.pow_succ]
  omega
theorem ld_p2 (k : Nat) : 100 * 10 ^ k = 10 ^ (k + 2) := by
  rw [show k + 2 = k + 1 + 1 from rfl, Nat.pow_succ, Nat.pow_succ]
  omega
theorem ld_pd (k : Nat) : 10 ^ (k + 1) / 10 = 10 ^ k := by
  rw [Nat.pow_succ]
  exact Nat.mul_div_cancel _ (by decide)
theorem ld_pl {k : Nat} (h : k ≤ 18) : 10 ^ k < 2 ^ 63 := Nat.lt_of_le_of_lt (Nat.pow_le_pow_right (by decide) h) (by decide)
theorem ld_ge {d v k : Nat} (h : ld_D d v) (hk : 1 ≤ k) (hd : k ≤ d) : 10 ^ k ≤ v := by
  rcases h.2 with e | e
  · omega
  · exact Nat.le_trans (Nat.pow_le_pow_right (by decide) hd) e
theorem ld_d0 {d w : Nat} (h : ld_D d w) (h10 : w < 10) : d = 0 := by
  by_cases e : 1 ≤ d
  · have h9 : 10 ≤ w := ld_ge h (k := 1) (by decide) e
    omega
  · omega
theorem ld_d1 {d w : Nat} (h : ld_D d w) (h10 : 10 ≤ w) (h100 : w < 100) : d = 1 := by
  have h0 : d ≠ 0 := fun e => by
    have h1 := h.1
    rw [e] at h1
    exact absurd (show w < 10 from h1) (by omega)
  by_cases e : 2 ≤ d
  · have h9 : 100 ≤ w := ld_ge h (k := 2) (by decide) e
    omega
  · omega
theorem ld_d2 {d w : Nat} (h : ld_D d w) (h100 : 100 ≤ w) : ∃ e, d = e + 2 ∧ ld_D e (w / 100) := by
  match d, h with
  | 0, h => exact absurd (show w < 10 from h.1) (by omega)
  | 1, h => exact absurd (show w < 100 from h.1) (by omega)
  | e + 2, h =>
    have h1 : w < 10 ^ (e + 1 + 2) := h.1
    have h2 : 10 ^ (e + 2) ≤ w := ld_ge h (by omega) (by omega)
    rw [← ld_p2] at h1 h2
    exact ⟨e, rfl, Nat.div_lt_of_lt_mul h1, Or.inr ((Nat.le_div_iff_mul_le (by decide)).mpr (by omega))⟩
/-! ===== negative longs ===== -/
theorem ld_nT {w : Nat} (h : w ≤ 2 ^ 63) : (-lN w).toInt = -(w : Int) := Int64.toInt_neg_ofNat_of_le h
theorem ld_nle {a b : Nat} (ha : a ≤ 2 ^ 63) (hb : b ≤ 2 ^ 63) : -lN a ≤ -lN b ↔ b ≤ a := by
  rw [Int64.le_iff_toInt_le, ld_nT ha, ld_nT hb]
  omega
theorem ld_nlt {a b : Nat} (ha : a ≤ 2 ^ 63) (hb : b ≤ 2 ^ 63) : -lN a < -lN b ↔ b < a := by
  rw [Int64.lt_iff_toInt_lt, ld_nT ha, ld_nT hb]
  omega
theorem ld_pos {v : Nat} (h : v < 2 ^ 63) : 0 ≤ lN v := (pk_lLE (a := 0) (by decide) h).mpr (Nat.zero_le v)
theorem ld_nn {v : Nat} (h : v < 2 ^ 63) : ¬ lN v < 0 := fun z => absurd ((pk_lLT (b := 0) h (by decide)).mp z) (Nat.not_lt_zero v)
theorem ld_neg {v : Nat} (h0 : 0 < v) (h : v ≤ 2 ^ 63) : -lN v < 0 := by
  rw [Int64.lt_iff_toInt_lt, ld_nT h, Int64.toInt_zero]
  omega
theorem ld_nge {v : Nat} (h0 : 0 < v) (h : v ≤ 2 ^ 63) : ¬ 0 ≤ -lN v := by
  rw [Int64.le_iff_toInt_le, ld_nT h, Int64.toInt_zero]
  omega
theorem ld_nmul (i : Nat) : 10 * -lN (10 ^ i) = -lN (10 ^ (i + 1)) := by
  show lN 10 * -lN (10 ^ i) = -lN (10 ^ (i + 1))
  rw [Int64.mul_neg, lN_mul, ld_p1]
theorem ld_ndiv {v p : Nat} (hv : v ≤ 2 ^ 63) (hp : p < 2 ^ 63) : -lN v / lN p = -lN (v / p) := by
  have hq : v / p ≤ v := Nat.div_le_self v p
  have e : (-(v : Int)).tdiv (p : Int) = -((v / p : Nat) : Int) := by rw [Int.neg_tdiv, ← Int.ofNat_tdiv]
  apply Int64.toInt_inj.mp
  rw [Int64.toInt_div, ld_nT hv, pk_lT hp, e, ld_nT (Nat.le_trans hq hv)]
  generalize v / p = q at hq
  exact Int.bmod_eq_of_le (by omega) (by omega)
theorem ld_nrem {v : Nat} : ((-lN (v / 100)) * 100 - (-lN v)).toInt32 = nI (v % 100) := by
  show ((-lN (v / 100)) * lN 100 - (-lN v)).toInt32 = nI (v % 100)
  rw [Int64.neg_mul, Int64.sub_neg, Int64.add_comm, ← Int64.sub_eq_add_neg, lN_mul, lN_sub (by omega), lN_i]
  exact congrArg nI (by omega)
theorem ld_n32 (v : Nat) : (-lN v).toInt32 = -nI v := by rw [Int64.toInt32_neg, lN_i]
/-! ===== a long as a size and a sign ===== -/
def ld_Y (y : Int64) (q s : Nat) : Prop := (y = lN q ∧ q < 2 ^ 63 ∧ s = 0) ∨ (y = -lN q ∧ q ≤ 2 ^ 63 ∧ s = 1)
def ld_X (x : Int64) (v s : Nat) : Prop := ld_Y x v s ∧ (s = 1 → 0 < v)
theorem ld_Ys {y : Int64} {q s : Nat} (h : ld_Y y q s) : s ≤ 1 := by
  rcases h with ⟨-, -, e⟩ | ⟨-, -, e⟩ <;> omega
theorem ld_X_ex (x : Int64) : ∃ v s, ld_X x v s ∧ v < 10 ^ 19 := by
  by_cases h : x < 0
  · have h1 := Int64.le_toInt x
    rw [Int64.lt_iff_toInt_lt, Int64.toInt_zero] at h
    refine ⟨(-x.toInt).toNat, 1, ⟨Or.inr ⟨Int64.toInt_inj.mp ?_, by omega, rfl⟩, fun _ => by omega⟩, by omega⟩
    rw [ld_nT (by omega)]
    omega
  · obtain ⟨v, hv, rfl⟩ := pk_lOf h
    exact ⟨v, 0, ⟨Or.inl ⟨rfl, hv, rfl⟩, fun z => absurd z (by decide)⟩, by omega⟩
theorem ld_Ydiv {y : Int64} {q s p : Nat} (h : ld_Y y q s) (h0 : 0 < p) (hp : p < 2 ^ 63) : ld_Y (y / lN p) (q / p) s := by
  rcases h with ⟨rfl, hq, e⟩ | ⟨rfl, hq, e⟩
  · exact Or.inl ⟨pk_lDiv hq h0 hp, Nat.lt_of_le_of_lt (Nat.div_le_self q p) hq, e⟩
  · exact Or.inr ⟨ld_ndiv hq hp, Nat.le_trans (Nat.div_le_self q p) hq, e⟩
theorem ld_Yrem {y : Int64} {q s : Nat} (h : ld_Y y q s) : ld_Y (y - y / 10 * 10) (q % 10) s := by
  rcases h with ⟨rfl, hq, e⟩ | ⟨rfl, hq, e⟩
  · exact Or.inl ⟨pk_lRem (b := 10) hq (by decide) (by decide), by omega, e⟩
  · refine Or.inr ⟨?_, by omega, e⟩
    show -lN q - -lN q / lN 10 * lN 10 = -lN (q % 10)
    rw [ld_ndiv hq (by decide), Int64.neg_mul, Int64.sub_neg, Int64.add_comm, ← Int64.sub_eq_add_neg, ← Int64.neg_sub, lN_mul, lN_sub (by omega)]
    exact congrArg (fun z => -lN z) (by omega)
theorem ld_Ydig {y : Int64} {r s : Nat} (h : ld_Y y r s) : (0 ≤ y → y = lN r) ∧ (¬ 0 ≤ y → -y = lN r) := by
  rcases h with ⟨rfl, hq, e⟩ | ⟨rfl, hq, e⟩
  · exact ⟨fun _ => rfl, fun z => absurd (ld_pos hq) z⟩
  · refine ⟨fun z => ?_, fun _ => Int64.neg_neg⟩
    by_cases h0 : 0 < r
    · exact absurd z (ld_nge h0 hq)
    · obtain rfl : r = 0 := by omega
      decide
theorem ld_Ylo {y : Int64} {q s : Nat} (h : ld_Y y q s) (h10 : q < 10) : ¬ 10 ≤ y ∧ (-10) < y := by
  have e1 : (10 : Int64).toInt = 10 := by decide
  have e2 : (-10 : Int64).toInt = -10 := by decide
  rw [Int64.le_iff_toInt_le, Int64.lt_iff_toInt_lt, e1, e2]
  rcases h with ⟨rfl, hq, e⟩ | ⟨rfl, hq, e⟩
  · rw [pk_lT hq]
    omega
  · rw [ld_nT hq]
    omega
theorem ld_Yhi {y : Int64} {q s : Nat} (h : ld_Y y q s) (h10 : 10 ≤ q) : ¬ 10 ≤ y → ¬ (-10) < y := by
  have e1 : (10 : Int64).toInt = 10 := by decide
  have e2 : (-10 : Int64).toInt = -10 := by decide
  rw [Int64.le_iff_toInt_le, Int64.lt_iff_toInt_lt, e1, e2]
  rcases h with ⟨rfl, hq, e⟩ | ⟨rfl, hq, e⟩
  · rw [pk_lT hq]
    omega
  · rw [ld_nT hq]
    omega
theorem ld_chr {r : Nat} (h : r < 10) : ((48 + lN r).toInt32.toUInt32 % 65536).toInt32 = nI (48 + r) := by
  show ((lN 48 + lN r).toInt32.toUInt32 % 65536).toInt32 = nI (48 + r)
  rw [lN_add, lN_i, pk_char, pk_tn (by omega), Nat.mod_eq_of_lt (by omega)]
theorem ld_cat {T : Nat → Nat} {n c : Nat} {a : Nat → Int32} (hT : T n = c) (h : sb_Lat (sb_cat T n (fun _ => c)) (n + 1) a) : sb_Lat T (n + 1) a := fun j hj => by
  have h1 := h j hj
  by_cases e : j < n
  · rw [sb_cat_lo e] at h1
    exact h1
  · obtain rfl : j = n := by omega
    rw [show sb_cat T j (fun _ => c) j = c from sb_cat_hi (t := T) (n := j) (s := fun _ => c) (j := 0)] at h1
    rw [hT]
    exact h1
end
section
/-! ===== Long.stringSize, Long.getChars, Long.toString ===== -/
theorem ld_size {post : Int32 → Prop} {v d s : Nat} (hv : v ≤ 2 ^ 63) (hd : d ≤ 18) (hD : ld_D d v) (hp : post (nI (d + 1 + s))) :
    ∀ (e i : Nat), i + e = 19 → 1 ≤ i → i ≤ d + 1 → wJ13_stringSize_95d88_565d2_20 post (-lN v) (nI s) (e + 1) (-lN (10 ^ i)) (nI i) := by
  intro e
  induction e with
  | zero =>
    intro i hi h1 h2
    rw [wJ13_stringSize_95d88_565d2_20]
    refine br_t (show nI 19 ≤ nI i from nI_le (by omega) (by omega)) ?_
    show post (nI 19 + nI s)
    rw [nI_add, show 19 + s = d + 1 + s by omega]
    exact hp
  | succ e ih =>
    intro i hi h1 h2
    have hq := ld_pl (k := i) (by omega)
    rw [wJ13_stringSize_95d88_565d2_20]
    refine br_f (show ¬ nI 19 ≤ nI i from nI_ge (by omega) (by decide)) ?_
    by_cases h : i ≤ d
    · exact br_t ((ld_nle hv (Nat.le_of_lt hq)).mpr (ld_ge hD h1 h)) (nm_r (ld_nmul i) (nm_r (nI_1 i) (ih (i + 1) (by omega) (by omega) (by omega))))
    · have hi2 : i = d + 1 := by omega
      have h9 : v < 10 ^ i := by
        rw [hi2]
        exact hD.1
      refine br_f (fun z => absurd ((ld_nle hv (Nat.le_of_lt hq)).mp z) (Nat.not_le_of_lt h9)) ?_
      rw [nI_add, hi2]
      exact hp
theorem ld_stringSize {post : Int32 → Prop} {x : Int64} {v d s : Nat} (hx : ld_X x v s) (hd : d ≤ 18) (hD : ld_D d v) (hp : post (nI (d + 1 + s))) : wpJ13_stringSize_95d88_565d2 post () x := by
  obtain ⟨⟨rfl, hv, rfl⟩ | ⟨rfl, hv, rfl⟩, h0⟩ := hx
  · refine br_f (ld_nn hv) (nm_e ⟨19, ?_⟩)
    exact ld_size (Nat.le_of_lt hv) hd hD hp 18 1 (by decide) (by decide) (by omega)
  · refine br_t (ld_neg (h0 rfl) hv) ⟨19, ?_⟩
    exact ld_size hv hd hD hp 18 1 (by decide) (by decide) (by omega)
theorem ld_g86 {P : Int32 → StJf0261 → Prop} {m n : Nat} {x8 : Int32} (hm : m ≤ 65536) : ∀ (f d w p : Nat) (a : Nat → Int32), w < f → w < 2 ^ 31 → ld_D d w → p = n + (d + 1) → p ≤ m →
    (∀ a', (∀ i, i < d + 1 → a' (p - 1 - i) = sb_b (48 + w / 10 ^ i % 10)) → (∀ j, p ≤ j → a' j = a j) → wJ13_getChars_11360_543e4_178 P (nI n) x8 a' m) →
    wJ13_getChars_11360_543e4_86 P x8 m f (nI p) (-nI w) a := by
  intro f
  induction f with
  | zero =>
    intro d w p a h
    omega
  | succ f ih =>
    intro d w p a hwf hw hD hp hpm hP
    have e1 : -(-nI w) = nI w := Int32.neg_neg
    have ew : (nI w).toNatClampNeg = w := nI_clamp hw
    rw [wJ13_getChars_11360_543e4_86]
    by_cases h100 : w < 100
    · obtain ⟨t1, t2⟩ := sb_tab w h100
      refine br_t (show -nI 100 < -nI w from (sb_nlt (by decide) hw).mpr h100) (nm_r (sb_m1 (by omega)) ⟨by rw [e1]; exact vp_in_nI h100 (by decide), vp_in_nI (by omega) (by omega), ?_⟩)
      refine nm_r (e' := upd a (p - 1) (sb_b (48 + w % 10))) (by rw [e1, ew, nI_clamp (by omega), t1]) ?_
      by_cases h9 : w < 10
      · have hd : d = 0 := ld_d0 hD h9
        refine br_t (show -nI 9 ≤ -nI w from (sb_nle (by decide) hw).mpr (by omega)) ?_
        rw [show nI (p - 1) = nI n from congrArg nI (by omega)]
        refine hP _ (fun i hi => ?_) (fun j hj => pk_un (by omega))
        obtain rfl : i = 0 := by omega
        rw [Nat.sub_zero, pk_us, Nat.pow_zero, Nat.div_one]
      · have hd : d = 1 := ld_d1 hD (by omega) h100
        have d2 : w / 10 % 10 = w / 10 := by omega
        refine br_f (fun z => by have := (sb_nle (by decide) hw).mp (show -nI 9 ≤ -nI w from z); omega) (nm_r (sb_m1 (by omega)) ⟨by rw [e1]; exact vp_in_nI h100 (by decide), vp_in_nI (by omega) (by omega), ?_⟩)
        refine nm_r (e' := upd (upd a (p - 1) (sb_b (48 + w % 10))) (p - 1 - 1) (sb_b (48 + w / 10))) (by rw [e1, ew, nI_clamp (by omega), t2]) ?_
        rw [show nI (p - 1 - 1) = nI n from congrArg nI (by omega)]
        refine hP _ (fun i hi => ?_) (fun j hj => by rw [pk_un (by omega), pk_un (by omega)])
        obtain rfl | rfl : i = 0 ∨ i = 1 := by omega
        · rw [Nat.sub_zero, pk_un (by omega), pk_us, Nat.pow_zero, Nat.div_one]
        · rw [pk_us, Nat.pow_one, d2]
    · obtain ⟨t1, t2⟩ := sb_tab (w % 100) (Nat.mod_lt _ (by decide))
      obtain ⟨e, hd, hE⟩ := ld_d2 hD (by omega)
      have er : (nI (w % 100)).toNatClampNeg = w % 100 := nI_clamp (by omega)
      rw [show w % 100 % 10 = w % 10 by omega] at t1
      rw [show w % 100 / 10 = w / 10 % 10 by omega] at t2
      refine br_f (fun z => h100 ((sb_nlt (by decide) hw).mp (show -nI 100 < -nI w from z))) ⟨by decide, nm_r (sb_ndiv hw) (nm_r (sb_nrem hw) (nm_r (sb_m1 (by omega)) ⟨vp_in_nI (by omega) (by decide), vp_in_nI (by omega) (by omega), ?_⟩))⟩
      refine nm_r (e' := upd a (p - 1) (sb_b (48 + w % 10))) (by rw [er, nI_clamp (by omega), t1]) (nm_r (sb_m1 (by omega)) ⟨vp_in_nI (by omega) (by decide), vp_in_nI (by omega) (by omega), ?_⟩)
      refine nm_r (e' := upd (upd a (p - 1) (sb_b (48 + w % 10))) (p - 1 - 1) (sb_b (48 + w / 10 % 10))) (by rw [er, nI_clamp (by omega), t2]) ?_
      refine ih e (w / 100) (p - 1 - 1) _ (by omega) (by omega) hE (by omega) (by omega) (fun a' h2 h1 => ?_)
      refine hP a' (fun i hi => ?_) (fun j hj => by rw [h1 j (by omega), pk_un (by omega), pk_un (by omega)])
      match i, hi with
      | 0, _ => rw [Nat.sub_zero, h1 _ (by omega), pk_un (by omega), pk_us, Nat.pow_zero, Nat.div_one]
      | 1, _ => rw [h1 _ (by omega), pk_us, Nat.pow_one]
      | k + 2, hi => rw [show p - 1 - (k + 2) = p - 1 - 1 - 1 - k by omega, h2 k (by omega), Nat.div_div_eq_div_mul, ld_p2]
theorem ld_g24 {P : Int32 → StJf0261 → Prop} {m n : Nat} {x8 : Int32} (hm : m ≤ 65536) : ∀ (f d v p : Nat) (a : Nat → Int32), v < f → v ≤ 2 ^ 63 → ld_D d v → p = n + (d + 1) → p ≤ m →
    (∀ a', (∀ i, i < d + 1 → a' (p - 1 - i) = sb_b (48 + v / 10 ^ i % 10)) → (∀ j, p ≤ j → a' j = a j) → wJ13_getChars_11360_543e4_178 P (nI n) x8 a' m) →
    wJ13_getChars_11360_543e4_24 P x8 m f (-lN v) (nI p) a := by
  intro f
  induction f with
  | zero =>
    intro d v p a h
    omega
  | succ f ih =>
    intro d v p a hvf hv hD hp hpm hP
    rw [wJ13_getChars_11360_543e4_24]
    by_cases h31 : v < 2 ^ 31
    · refine br_t (show -lN 2147483648 < -lN v from (ld_nlt (by decide) hv).mpr (by omega)) ⟨v + 1, ?_⟩
      rw [ld_n32]
      exact ld_g86 hm (v + 1) d v p a (by omega) h31 hD hp hpm hP
    · obtain ⟨t1, t2⟩ := sb_tab (v % 100) (Nat.mod_lt _ (by decide))
      obtain ⟨e, hd, hE⟩ := ld_d2 hD (by omega)
      have er : (nI (v % 100)).toNatClampNeg = v % 100 := nI_clamp (by omega)
      rw [show v % 100 % 10 = v % 10 by omega] at t1
      rw [show v % 100 / 10 = v / 10 % 10 by omega] at t2
      refine br_f (fun z => h31 (by have := (ld_nlt (by decide) hv).mp (show -lN 2147483648 < -lN v from z); omega)) ⟨by decide, nm_r (ld_ndiv (p := 100) hv (by decide)) (nm_r ld_nrem (nm_r (sb_m1 (by omega)) ⟨vp_in_nI (by omega) (by decide), vp_in_nI (by omega) (by omega), ?_⟩))⟩
      refine nm_r (e' := upd a (p - 1) (sb_b (48 + v % 10))) (by rw [er, nI_clamp (by omega), t1]) (nm_r (sb_m1 (by omega)) ⟨vp_in_nI (by omega) (by decide), vp_in_nI (by omega) (by omega), ?_⟩)
      refine nm_r (e' := upd (upd a (p - 1) (sb_b (48 + v % 10))) (p - 1 - 1) (sb_b (48 + v / 10 % 10))) (by rw [er, nI_clamp (by omega), t2]) ?_
      refine ih e (v / 100) (p - 1 - 1) _ (by omega) (by omega) hE (by omega) (by omega) (fun a' h2 h1 => ?_)
      refine hP a' (fun i hi => ?_) (fun j hj => by rw [h1 j (by omega), pk_un (by omega), pk_un (by omega)])
      match i, hi with
      | 0, _ => rw [Nat.sub_zero, h1 _ (by omega), pk_un (by omega), pk_us, Nat.pow_zero, Nat.div_one]
      | 1, _ => rw [h1 _ (by omega), pk_us, Nat.pow_one]
      | k + 2, hi => rw [show p - 1 - (k + 2) = p - 1 - 1 - 1 - k by omega, h2 k (by omega), Nat.div_div_eq_div_mul, ld_p2]
theorem ld_lat0 {v d : Nat} {a' : Nat → Int32} (h : ∀ i, i < d + 1 → a' (d + 1 + 0 - 1 - i) = sb_b (48 + v / 10 ^ i % 10)) : sb_Lat (ld_T v d 0) (d + 1 + 0) a' := fun j hj => by
  have h9 := h (d - j) (by omega)
  rw [show d + 1 + 0 - 1 - (d - j) = j by omega] at h9
  refine ⟨ld_T_lt v d 0 j, ?_⟩
  rw [ld_T_hi (Nat.zero_le j), show 0 + d - j = d - j by omega]
  exact h9
theorem ld_lat1 {v d : Nat} {a' : Nat → Int32} (h : ∀ i, i < d + 1 → a' (d + 1 + 1 - 1 - i) = sb_b (48 + v / 10 ^ i % 10)) : sb_Lat (ld_T v d 1) (d + 1 + 1) (upd a' 0 (sb_b 45)) := fun j hj => by
  refine ⟨ld_T_lt v d 1 j, ?_⟩
  by_cases e : j = 0
  · subst e
    rw [pk_us, ld_T_lo (by decide)]
  · have h9 := h (1 + d - j) (by omega)
    rw [show d + 1 + 1 - 1 - (1 + d - j) = j by omega] at h9
    rw [pk_un e, ld_T_hi (by omega)]
    exact h9
theorem ld_getChars {P : Int32 → StJf0261 → Prop} {x : Int64} {v d s : Nat} {a : Nat → Int32} (hx : ld_X x v s) (hd : d ≤ 18) (hD : ld_D d v) (hP : ∀ a', sb_Lat (ld_T v d s) (d + 1 + s) a' → P (nI 0) (a', d + 1 + s)) :
    wpJ13_getChars_11360_543e4 P (a, d + 1 + s) x (nI (d + 1 + s)) := by
  obtain ⟨⟨rfl, hv, rfl⟩ | ⟨rfl, hv, rfl⟩, h0⟩ := hx
  · refine br_t (ld_pos hv) (br_t rfl (nm_e ⟨v + 1, ?_⟩))
    exact ld_g24 (n := 0) (by omega) (v + 1) d v (d + 1 + 0) a (by omega) (Nat.le_of_lt hv) hD (by omega) (Nat.le_refl _) (fun a' h _ => br_t rfl (hP a' (ld_lat0 h)))
  · refine br_f (ld_nge (h0 rfl) hv) (br_f (by decide) ⟨v + 1, ?_⟩)
    refine ld_g24 (n := 1) (by omega) (v + 1) d v (d + 1 + 1) a (by omega) hv hD (by omega) (Nat.le_refl _) (fun a' h _ => br_f (by decide) (nm_r (sb_m1 (by decide)) ⟨vp_in_nI (by omega) (by omega), nm_r (e' := upd a' 0 (sb_b 45)) ?_ (hP _ (ld_lat1 h))⟩))
    rw [show (nI (1 - 1)).toNatClampNeg = 0 by decide, show vp_nar .byte 45 = sb_b 45 by decide]
theorem ld_toString {post : StJd4992 → Prop} {mc ms : Nat} {x : Int64} {v d s : Nat} (hx : ld_X x v s) (hd : d ≤ 18) (hD : ld_D d v) (hmc : 2 ≤ mc) (hms : 24 ≤ ms) (hp : ∀ a', sb_Lat (ld_T v d s) (d + 1 + s) a' → post (0, 0, 0, a', d + 1 + s)) :
    wpJ13_toString_5f9dc_565d2 post mc ms () x := by
  have hs := ld_Ys hx.1
  unfold wpJ13_toString_5f9dc_565d2
  refine ld_stringSize hx hd hD ⟨nI_pos (by omega), nm_r (nI_clamp (by omega)) ⟨by omega, by omega, by omega, ?_⟩⟩
  exact ld_getChars hx hd hD (fun a' h => ⟨hmc, by omega, by decide, by decide, hp a' h⟩)
end
section
/-! ===== LongTextsPlain.digits ===== -/
/-- the builder's capacity, and what has been made so far -/
def ld_K (m kc ks : Nat) : Prop := (m = 16 ∧ kc ≤ 2 ∧ ks ≤ 20) ∨ (m = 34 ∧ kc ≤ 3 ∧ ks ≤ 54)
theorem ld_Kb {m kc ks : Nat} (h : ld_K m kc ks) : m ≤ 34 ∧ kc ≤ 3 ∧ ks ≤ 54 := by
  unfold ld_K at h
  omega
theorem ld_room {q m kc ks : Nat} (hK : ld_K m kc ks) (hq : q ≤ 34) : ∃ mc ms, sb_Room q m mc ms ∧ ld_K (sb_cap q m) (kc + mc) (ks + ms) := by
  by_cases h : q ≤ m
  · refine ⟨0, 0, Or.inl h, ?_⟩
    rw [sb_cap, if_pos h]
    exact hK
  · unfold ld_K at hK
    have hc : sb_cap q m = 34 := by
      unfold sb_cap
      (repeat' split) <;> omega
    refine ⟨1, 34, Or.inr ⟨by omega, by omega, by omega⟩, ?_⟩
    rw [hc]
    exact Or.inr ⟨rfl, by omega, by omega⟩
theorem ld_86 {post : St1 → Prop} {mc ms : Nat} {J : Int64 → Nat → Nat → Int32 → Int32 → Int32 → (Nat → Int32) → Nat → Prop} {x : Int64} {T : Nat → Nat} {k r n m kc ks : Nat} {ml : Int32} {a : Nat → Int32}
    (hmc : 3 ≤ mc) (hms : 54 ≤ ms) (hk : k ≤ 18) (hr : r < 10) (hT : T n = 48 + r) (hn : n < 34) (hnm : n ≤ m) (hK : ld_K m kc ks) (hL : sb_Lat T n a) (hf : sb_Fit a)
    (hJ : ∀ (kc' ks' : Nat) (a' : Nat → Int32) (m' : Nat), n + 1 ≤ m' → ld_K m' kc' ks' → sb_Lat T (n + 1) a' → sb_Fit a' → J (lN (10 ^ k / 10)) kc' ks' 0 ml (nI (n + 1)) a' m') :
    wX2_digits_86 post mc ms J x (lN (10 ^ k)) (lN r) 48 kc ks 0 ml (nI n) a m := by
  obtain ⟨c1, c2, hR, hK'⟩ := ld_room (q := n + 1) hK (by omega)
  have hb := ld_Kb hK'
  have hb2 := ld_Kb hK
  unfold wX2_digits_86
  rw [ld_chr hr]
  refine ⟨c1, c2, by omega, by omega, sb_appendChar hnm (by omega) hL hf (by omega) hR (fun a' h1 h2 => ⟨by decide, nm_r (pk_lDiv (b := 10) (ld_pl hk) (by decide) (by decide)) ?_⟩)⟩
  exact hJ _ _ _ _ (sb_cap_ge _ _) hK' (ld_cat hT h1) h2
theorem ld_52 {post : St1 → Prop} {mc ms : Nat} {x : Int64} {v d s : Nat} (hx : ld_Y x v s) (hd : d ≤ 18) (hmc : 5 ≤ mc) (hms : 78 ≤ ms) (hp : ∀ a', sb_Lat (ld_T v d s) (d + 1 + s) a' → post (0, 0, 0, a', d + 1 + s)) :
    ∀ (k kc ks : Nat) (ml : Int32) (a : Nat → Int32) (m : Nat), k ≤ d + 1 → d + 1 + s - k ≤ m → ld_K m kc ks → sb_Lat (ld_T v d s) (d + 1 + s - k) a → sb_Fit a → wX2_digits_52 post mc ms x (k + 1) (lN (10 ^ k / 10)) kc ks 0 ml (nI (d + 1 + s - k)) a m := by
  have hs := ld_Ys hx
  intro k
  induction k with
  | zero =>
    intro kc ks ml a m hk hm hK hL hf
    have hb := ld_Kb hK
    rw [wX2_digits_52]
    refine br_t (show lN (10 ^ 0 / 10) ≤ 0 by decide) ⟨2, 24, by omega, by omega, ?_⟩
    exact sb_toString hm (by omega) hL hf (by decide) (by omega) (fun a' h1 h2 => hp a' h1)
  | succ k ih =>
    intro kc ks ml a m hk hm hK hL hf
    rw [wX2_digits_52, ld_pd]
    have hp0 := ld_p0 k
    have hpl := ld_pl (k := k) (by omega)
    have hne : ¬ lN (10 ^ k) ≤ 0 := fun z => absurd ((pk_lLE (b := 0) hpl (by decide)).mp z) (by omega)
    have hne0 : ¬ lN (10 ^ k) = 0 := fun z => absurd ((pk_lEQ (b := 0) hpl (by decide)).mp z) (by omega)
    have hdg := ld_Ydig (ld_Yrem (ld_Ydiv hx hp0 hpl))
    have hN : d + 1 + s - (k + 1) + 1 = d + 1 + s - k := by omega
    have hJ : wX2_digits_86 post mc ms (wX2_digits_52 post mc ms x (k + 1)) x (lN (10 ^ k)) (lN (v / 10 ^ k % 10)) 48 kc ks 0 ml (nI (d + 1 + s - (k + 1))) a m := by
      refine ld_86 (T := ld_T v d s) (by omega) (by omega) (by omega) (Nat.mod_lt _ (by decide)) ?_ (by omega) hm hK hL hf (fun kc' ks' a' m' h1 h2 h3 h4 => ?_)
      · rw [ld_T_hi (by omega), show s + d - (d + 1 + s - (k + 1)) = k by omega]
      · rw [hN] at h1 h3
        rw [hN]
        exact ih kc' ks' ml a' m' (by omega) h1 h2 h3 h4
    refine br_f hne ⟨hne0, by decide, nm_e (br_c (fun z => ?_) (fun z => ?_))⟩
    · rw [hdg.1 z]
      exact hJ
    · rw [hdg.2 z]
      exact hJ
theorem ld_23 {post : St1 → Prop} {mc ms : Nat} {x : Int64} {v d s kc ks m : Nat} {ml : Int32} {a : Nat → Int32} (hx : ld_Y x v s) (hd : d ≤ 18) (hD : ld_D d v) (hmc : 5 ≤ mc) (hms : 78 ≤ ms) (hp : ∀ a', sb_Lat (ld_T v d s) (d + 1 + s) a' → post (0, 0, 0, a', d + 1 + s))
    (hm : s ≤ m) (hK : ld_K m kc ks) (hL : sb_Lat (ld_T v d s) s a) (hf : sb_Fit a) : ∀ (e k : Nat), k + e = d → wX2_digits_23 post mc ms x kc ks 0 ml (nI s) a m (e + 1) (lN (10 ^ k)) := by
  intro e
  induction e with
  | zero =>
    intro k hk
    rw [show k = d by omega]
    have hp0 := ld_p0 d
    have hpl := ld_pl hd
    have hne0 : ¬ lN (10 ^ d) = 0 := fun z => absurd ((pk_lEQ (b := 0) hpl (by decide)).mp z) (by omega)
    have hq : v / 10 ^ d < 10 := Nat.div_lt_of_lt_mul (by rw [Nat.mul_comm, ld_p1]; exact hD.1)
    obtain ⟨h1, h2⟩ := ld_Ylo (ld_Ydiv hx hp0 hpl) hq
    have h52 := ld_52 hx hd hmc hms hp (d + 1) kc ks ml a m (Nat.le_refl _)
    rw [show d + 1 + s - (d + 1) = s by omega, ld_pd] at h52
    rw [wX2_digits_23]
    exact ⟨hne0, br_f h1 ⟨hne0, br_t h2 ⟨d + 1 + 1, h52 hm hK hL hf⟩⟩⟩
  | succ e ih =>
    intro k hk
    have hp0 := ld_p0 k
    have hpl := ld_pl (k := k) (by omega)
    have hne0 : ¬ lN (10 ^ k) = 0 := fun z => absurd ((pk_lEQ (b := 0) hpl (by decide)).mp z) (by omega)
    have hq : 10 ≤ v / 10 ^ k := (Nat.le_div_iff_mul_le hp0).mpr (by rw [ld_p1]; exact ld_ge hD (by omega) (by omega))
    have hi : lN (10 ^ k) * 10 = lN (10 ^ (k + 1)) := by
      show lN (10 ^ k) * lN 10 = lN (10 ^ (k + 1))
      rw [lN_mul, Nat.mul_comm, ld_p1]
    have hY := ld_Yhi (ld_Ydiv hx hp0 hpl) hq
    have hn := ih (k + 1) (by omega)
    rw [wX2_digits_23]
    exact ⟨hne0, br_c (fun _ => nm_r hi hn) (fun h1 => ⟨hne0, br_c (fun h2 => absurd h2 (hY h1)) (fun _ => nm_r hi hn)⟩)⟩
theorem ld_digits {post : St1 → Prop} {mc ms : Nat} {x : Int64} {v d s : Nat} (hx : ld_X x v s) (hd : d ≤ 18) (hD : ld_D d v) (hmc : 5 ≤ mc) (hms : 78 ≤ ms) (hp : ∀ a', sb_Lat (ld_T v d s) (d + 1 + s) a' → post (0, 0, 0, a', d + 1 + s)) :
    wpX2_digits post mc ms () x := by
  refine ⟨by omega, by omega, 1, 16, by omega, by omega, 1, 16, by decide, by decide, by decide, nm_r (e' := 16) (by decide) ⟨by decide, by decide, by decide, ?_⟩⟩
  have hx0 := hx
  obtain ⟨⟨rfl, hv, rfl⟩ | ⟨rfl, hv, rfl⟩, h0⟩ := hx
  · refine br_t (ld_pos hv) ⟨d + 1, ?_⟩
    exact ld_23 hx0.1 hd hD hmc hms hp (by decide) (Or.inl ⟨rfl, by decide, by decide⟩) (fun j hj => absurd hj (Nat.not_lt_zero j)) sb_fit0 d 0 (by omega)
  · refine br_f (ld_nge (h0 rfl) hv) ⟨0, 0, by omega, by omega, ?_⟩
    refine sb_appendChar (t := ld_T v d 1) (n := 0) (c := 45) (by decide) (by decide) (fun j hj => absurd hj (Nat.not_lt_zero j)) sb_fit0 (by decide) (Or.inl (by decide)) (fun a' h1 h2 => ⟨d + 1, ?_⟩)
    exact ld_23 hx0.1 hd hD hmc hms hp (by decide) (Or.inl ⟨rfl, by decide, by decide⟩) (ld_cat rfl h1) h2 d 0 (by omega)
end
section
/-! ===== the law ===== -/
theorem ld_cell {post : Int32 → Prop} {L k : Nat} {xs : Nat → Int32} (hL : L ≤ 3) (hk : k ≤ 3) (hp : ∀ r, post r) : wpL_cellAt post L xs () (nI k) :=
  br_c (fun _ => hp 0) (fun z => ⟨vp_in_nI (by
    rcases Nat.lt_or_ge k L with h | h
    · exact h
    · exact absurd (nI_le h (by omega)) z) (by omega), hp _⟩)
theorem ld_law {post : Int32 → St0 → Prop} {p0 : Int64} {p1 : Int32} (hp : post 1 ()) : wpL_lawOf post 15 240 () p0 p1 := by
  intro x ex
  obtain ⟨v, s, hx, hv⟩ := ld_X_ex x
  obtain ⟨d, hd, hD⟩ := ld_ex 18 v hv
  have hs := ld_Ys hx.1
  refine ⟨2, 24, by decide, by decide, 2, 24, by decide, by decide, ?_⟩
  refine ld_toString hx hd hD (by decide) (by decide) (fun a1 h1 => ⟨5, 78, by decide, by decide, ?_⟩)
  refine ld_digits hx hd hD (by decide) (by decide) (fun a2 h2 => ?_)
  exact sv_equals (by omega) (fun j hj => (h1 j hj).2.trans (h2 j hj).2.symm) ⟨by decide, hp⟩
theorem i_vc (xs : Nat → Int32) (L : Nat) (hL : L ≤ 3) : wpL_law (fun r => r = 1) L xs := by
  unfold wpL_law
  refine ld_cell (k := 0) hL (by decide) (fun r1 => ld_cell (k := 1) hL (by decide) (fun r2 => ld_cell (k := 2) hL (by decide) (fun r3 => ⟨15, 240, by decide, by decide, ?_⟩)))
  exact ld_law rfl
end
