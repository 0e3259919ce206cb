section
theorem sb_copyOf {post : StJefc9b → Prop} {mc ms : Nat} {a : Nat → Int32} {m q : Nat} (h : m < q) (hq : q ≤ 65536) (hf : sb_Fit a) (hmc : 1 ≤ mc) (hms : q ≤ ms)
    (hp : post (a, m, va_cpy a (fun _ => 0) 0 0 m, q)) : wpJ7_copyOf_9075b_9260e post mc ms (a, m) (nI q) := by
  have ei : (if nI q < Int32.ofNat m then nI q else Int32.ofNat m) = nI m := if_neg (nI_nlt (by omega) (by omega))
  have ec : (nI m).toNatClampNeg = m := nI_clamp (by omega)
  refine br_f (fun z => by have := (nI_eq (by omega) (by omega)).mp (show nI q = nI m from z); omega) ⟨nI_pos (by omega), nm_r (nI_clamp (by omega)) ⟨by omega, hmc, by omega, ?_⟩⟩
  rw [ei, ec, sb_cl0]
  exact ⟨by decide, by decide, nI_pos (by omega), by omega, by omega, fun i _ => hf _, nm_e hp⟩
/-- AbstractStringBuilder.ensureCapacityInternal, of Latin-1 bytes -/
theorem sb_ensure {post : StJ4ec0e → Prop} {mc ms : Nat} {ml z : Int32} {a : Nat → Int32} {m q : Nat} (hm : m ≤ 65536) (hq : q < 2 ^ 28) (hf : sb_Fit a) (hr : sb_Room q m mc ms)
    (hp : ∀ a', sb_Fit a' → (∀ j, j < m → a' j = a j) → post (0, ml, z, a', sb_cap q m)) : wpJ5_ensureCapacityInternal_d00df_b0715 post mc ms (0, ml, z, a, m) (nI q) := by
  have e1 : (nI q - Int32.ofNat m).toInt = (q : Int) - m := pk_sub_toInt (by omega) (by omega)
  refine nm_r (sb_shr0 (Int32.ofNat m)) ?_
  by_cases h : q ≤ m
  · refine br_t (by rw [Int32.le_iff_toInt_le, e1, Int32.toInt_zero]; omega) ?_
    have h9 := hp a hf (fun _ _ => rfl)
    rw [sb_cap, if_pos h] at h9
    exact h9
  · have hr' : 1 ≤ mc ∧ sb_cap q m ≤ ms ∧ sb_cap q m ≤ 65536 := hr.resolve_left h
    have hc : sb_cap q m = m + (if q - m < m + 2 then m + 2 else q - m) := by
      unfold sb_cap
      rw [if_neg h]
      split <;> split <;> omega
    have hg := sb_cap_ge q m
    refine br_f (fun hc => h (by rw [Int32.le_iff_toInt_le, e1, Int32.toInt_zero] at hc; omega)) ?_
    have e2 : Int32.ofNat m + ((2 : Int32) <<< ((0 : Int32) &&& 31)) = nI (m + 2) := by
      rw [sb_shl0]
      exact nI_add m 2
    have e3 : Int32.ofNat m + (if nI (q - m) < nI (m + 2) then nI (m + 2) else nI (q - m)) = nI (sb_cap q m) := by
      rw [hc]
      by_cases h2 : q - m < m + 2
      · rw [if_pos h2, if_pos (nI_lt h2 (by omega))]
        exact nI_add m (m + 2)
      · rw [if_neg h2, if_neg (nI_nlt (by omega) (by omega))]
        exact nI_add m (q - m)
    refine nm_e (nm_r (sb_shl0 (nI q)) (nm_r (show nI q - nI m = nI (q - m) from pk_sub (by omega)) ?_))
    rw [e2]
    refine nm_r e3 (br_f (nI_nle (by omega) (by omega)) (br_f (show ¬ nI 2147483639 < nI (sb_cap q m) from nI_nlt (by omega) (by decide)) ?_))
    refine br_f (fun z9 => by have := (nI_eq (by omega) (by decide)).mp (show nI (sb_cap q m) = nI 2147483647 from z9); omega) ?_
    rw [sb_shr0]
    refine ⟨mc, ms, by omega, by omega, ?_⟩
    rw [sb_shl0]
    exact sb_copyOf (by omega) hr'.2.2 hf hr'.1 hr'.2.1 (hp _ (sb_fitC hf sb_fit0) (fun j hj => sb_cpy0 hj))
/-- StringBuilder.append(char), a Latin-1 letter c -/
theorem sb_appendChar {post : StJ4ec0e → Prop} {mc ms : Nat} {ml : Int32} {t : Nat → Nat} {a : Nat → Int32} {n m c : Nat} (hnm : n ≤ m) (hm : m ≤ 65536) (hL : sb_Lat t n a) (hf : sb_Fit a) (hc : c < 256) (hr : sb_Room (n + 1) m mc ms)
    (hp : ∀ a', sb_Lat (sb_cat t n (fun _ => c)) (n + 1) a' → sb_Fit a' → post (0, ml, nI (n + 1), a', sb_cap (n + 1) m)) : wpJ4_append_cf468_b0715 post mc ms (0, ml, nI n, a, m) (nI c) := by
  have hg := sb_cap_ge (n + 1) m
  have hl := sb_cap_le hm hr
  refine ⟨mc, ms, by omega, by omega, mc, ms, by omega, by omega, ?_⟩
  rw [nI_1]
  refine sb_ensure hm (by omega) hf hr (fun a' hf' hk => ?_)
  refine br_t rfl (br_f (by decide) ?_)
  refine br_f (show ¬ nI 255 < nI c from nI_nlt (by omega) (by decide)) (br_f (by decide) ?_)
  refine nm_r (nI_1 n) ⟨vp_in_nI (by omega) (by omega), nm_r (e' := upd a' n (sb_b c)) (by rw [nI_clamp (by omega), pk_vb]; rfl) ?_⟩
  refine hp _ (sb_latPut hL (fun j hj => ?_) (fun i hi => ?_)) (sb_fitU hf' (sb_fitB c))
  · rw [pk_un (by omega)]
    exact hk j (by omega)
  · obtain rfl : i = 0 := by omega
    exact ⟨hc, pk_us⟩
theorem sb_check {post : Unit → Prop} {i n : Nat} (hi : i < n) (hn : n < 2 ^ 31) (hp : post ()) : wpJ0_checkIndex_df160_48e5c post () (nI i) (nI n) :=
  ⟨br_f (nI_pos (by omega)) (br_t (nI_lt hi hn) hp), br_f (nI_pos (by omega)) (br_t (nI_lt hi hn) hp)⟩
/-- StringBuilder.charAt -/
theorem sb_charAt {post : Int32 → Prop} {ml : Int32} {t : Nat → Nat} {a : Nat → Int32} {n m i : Nat} (hnm : n ≤ m) (hm : m ≤ 65536) (hL : sb_Lat t n a) (hi : i < n) (hp : post (nI (t i))) : wpJ4_charAt_5068e_2681c post (0, ml, nI n, a, m) (nI i) := by
  obtain ⟨h1, h2⟩ := hL i hi
  obtain ⟨b1, b2, -⟩ := sb_byte _ h1
  have hc := (pk_charN (q := t i) (by omega)).1
  refine nm_r (e' := nI n) (by rw [sb_shr0]; exact if_neg (nI_nlt hnm (by omega))) ?_
  refine sb_check hi (by omega) (br_t rfl ⟨vp_in_nI (by omega) (by omega), ?_⟩)
  rw [nI_clamp (by omega), h2, b1, b2]
  exact ⟨hc, hc, hp⟩
theorem sb_copyRange {post : StJefc9b → Prop} {mc ms : Nat} {a : Nat → Int32} {n m : Nat} (hnm : n ≤ m) (hm : m ≤ 65536) (hf : sb_Fit a) (hmc : 1 ≤ mc) (hms : n ≤ ms)
    (hp : ∀ a', sb_Fit a' → (∀ j, j < n → a' j = a j) → post (a, m, a', n)) : wpJ7_copyOfRange_39247_f5dda post mc ms (a, m) 0 (nI n) := by
  refine br_t rfl (pk_eq n m (fun e => ?_) (fun e => ?_))
  · subst e
    exact ⟨fun i _ => hf i, hmc, by omega, hp a hf (fun _ _ => rfl)⟩
  · have ei : (if nI n < (Int32.ofNat m - 0) then nI n else (Int32.ofNat m - 0)) = nI n := by
      rw [show Int32.ofNat m - 0 = nI m from pk_sub (a := m) (b := 0) (by omega)]
      exact if_pos (nI_lt (by omega) (by omega))
    refine ⟨mc, ms, by omega, by omega, br_t (nI_pos' (by omega)) (nm_r (e' := nI n) (pk_sub (a := n) (b := 0) (by omega)) ⟨nI_pos (by omega), nm_r (nI_clamp (by omega)) ⟨by omega, hmc, by omega, ?_⟩⟩)⟩
    rw [ei, nI_clamp (n := n) (by omega), sb_cl0]
    exact ⟨by decide, by decide, nI_pos (by omega), by omega, by omega, fun i _ => hf _, nm_e (hp _ (sb_fitC hf sb_fit0) (fun j hj => sb_cpy0 hj))⟩
/-- StringBuilder.toString -/
theorem sb_toString {post : StJ9c5ae → Prop} {mc ms : Nat} {ml : Int32} {t : Nat → Nat} {a : Nat → Int32} {n m : Nat} (hnm : n ≤ m) (hm : m ≤ 65536) (hL : sb_Lat t n a) (hf : sb_Fit a) (hmc : 2 ≤ mc) (hms : n + 4 ≤ ms)
    (hp : ∀ a', sb_Lat t n a' → sb_Fit a' → post (0, ml, nI n, a, m, 0, 0, 0, a', n)) : wpJ4_toString_0e30d_76c3d post mc ms (0, ml, nI n, a, m) := by
  refine ⟨by omega, by omega, mc - 1, ms - 4, by omega, by omega, mc - 1, ms - 4, by omega, by omega, br_t rfl (br_f (by decide) ⟨mc - 1, ms - 4, by omega, by omega, ?_⟩)⟩
  exact sb_copyRange hnm hm hf (by omega) (by omega) (fun a' hf' hk => hp a' (sb_latKeep hL hk) hf')
/-- String.equals of two Strings with the same bytes -/
theorem sv_equals {post : Int32 → Prop} {h z h' z' : Int32} {a a' : Nat → Int32} {n : Nat} (hn : n ≤ 65536) (he : ∀ j, j < n → a j = a' j) (hp : post 1) : wpJ0_equals_9ea2d_d3b40 post (0, h, z, a, n, 0, h', z', a', n) := by
  have L : ∀ (P : Int32 → Prop), P 1 → ∀ (d k : Nat), k + d = n → wJ1_equals_b5fdf_9f0d2_9 P a n a' n (d + 1) (nI k) := by
    intro P h1 d
    induction d with
    | zero =>
      intro k hk
      rw [wJ1_equals_b5fdf_9f0d2_9]
      exact br_t ((nI_leI (by omega) (by omega)).mpr (by omega)) h1
    | succ d ih =>
      intro k hk
      rw [wJ1_equals_b5fdf_9f0d2_9]
      refine br_f (nI_ge (by omega) (by omega)) ⟨vp_in_nI (by omega) (by omega), vp_in_nI (by omega) (by omega), br_t ?_ (nm_r (nI_1 k) (ih (k + 1) (by omega)))⟩
      rw [nI_clamp (by omega)]
      exact he k (by omega)
  exact br_t rfl (br_t rfl ⟨n + 1, L _ (br_f (by decide) hp) n 0 (by omega)⟩)
/-- Integer.DigitOnes, Integer.DigitTens -/
theorem sb_tab : ∀ k, k < 100 → vp_nar .byte (tabJ4c4d6.getD k 0) = sb_b (48 + k % 10) ∧ vp_nar .byte (tabJe9b5b.getD k 0) = sb_b (48 + k / 10) := by decide +kernel
end
section
/-! whole numbers of 64 bits: the negative ones, down to the least -/
theorem ed_nT {w : Nat} (h : w ≤ 2 ^ 63) : (-lN w).toInt = -(w : Int) := Int64.toInt_neg_ofNat_of_le h
theorem ed_nle {a b : Nat} (ha : a ≤ 2 ^ 63) (hb : b ≤ 2 ^ 63) : -lN a ≤ -lN b ↔ b ≤ a := by
  rw [Int64.le_iff_toInt_le, ed_nT ha, ed_nT hb]
  omega
theorem ed_nlt {a b : Nat} (ha : a ≤ 2 ^ 63) (hb : b ≤ 2 ^ 63) : -lN a < -lN b ↔ b < a := by
  rw [Int64.lt_iff_toInt_lt, ed_nT ha, ed_nT hb]
  omega
theorem ed_ndiv {w : Nat} (hw : w ≤ 2 ^ 63) (d : Nat) (hd : 1 < d) (hd2 : d < 2 ^ 63) : (-lN w) / lN d = -lN (w / d) := by
  apply Int64.toInt_inj.mp
  have h1 : w / d ≤ w := Nat.div_le_self w d
  have h2 : lN d ≠ -1 := by
    intro h
    have h3 : (lN d).toInt = (-1 : Int64).toInt := congrArg Int64.toInt h
    rw [pk_lT hd2] at h3
    have h4 : (-1 : Int64).toInt = -1 := by decide
    omega
  rw [Int64.toInt_div_of_ne_right _ _ h2, ed_nT hw, pk_lT hd2, ed_nT (Nat.le_trans h1 hw), Int.neg_tdiv, Int.tdiv_eq_ediv_of_nonneg (by omega)]
  rfl
theorem ed_nrem100 (w : Nat) : (-lN (w / 100)) * 100 - (-lN w) = lN (w % 100) := by
  show (-lN (w / 100)) * lN 100 - (-lN w) = lN (w % 100)
  rw [Int64.neg_mul, Int64.sub_neg, Int64.add_comm, ← Int64.sub_eq_add_neg, lN_mul, lN_sub (Nat.div_mul_le_self w 100)]
  exact congrArg lN (by have := Nat.div_add_mod' w 100; omega)
theorem ed_nrem10 {w : Nat} (hw : w ≤ 2 ^ 63) : (-lN w) - (-lN w) / 10 * 10 = -lN (w % 10) := by
  show (-lN w) - (-lN w) / lN 10 * lN 10 = -lN (w % 10)
  have h : lN w - lN (w / 10) * lN 10 = lN (w % 10) := by
    rw [lN_mul, lN_sub (Nat.div_mul_le_self w 10)]
    exact congrArg lN (by have := Nat.div_add_mod' w 10; omega)
  rw [ed_ndiv hw 10 (by decide) (by decide), ← h]
  grind
theorem ed_n32 (w : Nat) : (-lN w).toInt32 = -nI w := by
  rw [Int64.toInt32_neg, lN_i]
/-! a long as its sign and its size -/
def ed_S : Bool → Nat → Int64
  | true, v => -lN v
  | false, v => lN v
def ed_V (b : Bool) (v : Nat) : Prop := v ≤ 2 ^ 63 ∧ (b = false → v < 2 ^ 63)
theorem ed_of (x : Int64) : ∃ (b : Bool) (v : Nat), x = ed_S b v ∧ ed_V b v ∧ (b = true → 0 < v) := by
  by_cases h : x < 0
  · have h0 : (0 : Int64).toInt = 0 := by decide
    have h1 := Int64.le_toInt x
    rw [Int64.lt_iff_toInt_lt] at h
    refine ⟨true, (-x.toInt).toNat, ?_, ⟨by omega, fun z => by cases z⟩, fun _ => by omega⟩
    apply Int64.toInt_inj.mp
    show x.toInt = (-lN _).toInt
    rw [ed_nT (by omega)]
    omega
  · obtain ⟨k, hk, e⟩ := pk_lOf h
    exact ⟨false, k, e, ⟨by omega, fun _ => hk⟩, fun z => by cases z⟩
theorem ed_Sdiv {b : Bool} {v : Nat} (h : ed_V b v) : ed_S b v / 10 = ed_S b (v / 10) := by
  cases b with
  | true => exact ed_ndiv h.1 10 (by decide) (by decide)
  | false => exact pk_lDiv (b := 10) (h.2 rfl) (by decide) (by decide)
theorem ed_Srem {b : Bool} {v : Nat} (h : ed_V b v) : ed_S b v - ed_S b v / 10 * 10 = ed_S b (v % 10) := by
  cases b with
  | true => exact ed_nrem10 h.1
  | false => exact pk_lRem (b := 10) (h.2 rfl) (by decide) (by decide)
theorem ed_Vle {b : Bool} {v w : Nat} (h : ed_V b v) (hw : w ≤ v) : ed_V b w := ⟨by have := h.1; omega, fun z => by have := h.2 z; omega⟩
theorem ed_Sz {b : Bool} {v : Nat} (h : ed_V b v) : ed_S b v = 0 ↔ v = 0 := by
  have h0 : (0 : Int64).toInt = 0 := by decide
  rw [← Int64.toInt_inj, h0]
  cases b with
  | true =>
    show (-lN v).toInt = 0 ↔ _
    rw [ed_nT h.1]
    omega
  | false =>
    show (lN v).toInt = 0 ↔ _
    rw [pk_lT (h.2 rfl)]
    omega
theorem ed_Sneg {v : Nat} (h : v ≤ 2 ^ 63) (hv : 0 < v) : ed_S true v < 0 := by
  have h0 : (0 : Int64).toInt = 0 := by decide
  show -lN v < 0
  rw [Int64.lt_iff_toInt_lt, h0, ed_nT h]
  omega
theorem ed_Snle {v : Nat} (h : v ≤ 2 ^ 63) (hv : 0 < v) : ¬ 0 ≤ ed_S true v := by
  have h0 : (0 : Int64).toInt = 0 := by decide
  show ¬ 0 ≤ -lN v
  rw [Int64.le_iff_toInt_le, h0, ed_nT h]
  omega
theorem ed_Spos {v : Nat} (h : v < 2 ^ 63) : ¬ ed_S false v < 0 := by
  have h0 : (0 : Int64).toInt = 0 := by decide
  show ¬ lN v < 0
  rw [Int64.lt_iff_toInt_lt, h0, pk_lT h]
  omega
theorem ed_Sle {v : Nat} (h : v < 2 ^ 63) : 0 ≤ ed_S false v := by
  have h0 : (0 : Int64).toInt = 0 := by decide
  show 0 ≤ lN v
  rw [Int64.le_iff_toInt_le, h0, pk_lT h]
  omega
/-! how many digits a natural has -/
def ed_dig (w D : Nat) : Prop := 1 ≤ D ∧ w < 10 ^ D ∧ (D = 1 ∨ 10 ^ (D - 1) ≤ w)
theorem ed_dig1 {w D : Nat} (h : ed_dig w D) (hw : w < 10) : D = 1 := by
  obtain ⟨h1, -, h3⟩ := h
  by_cases e : D = 1
  · exact e
  · obtain ⟨k, rfl⟩ : ∃ k, D = k + 2 := ⟨D - 2, by omega⟩
    have h4 : 10 ^ (k + 1) = 10 ^ k * 10 := Nat.pow_succ _ _
    have h5 : 0 < 10 ^ k := Nat.pow_pos (by decide)
    have h6 : 10 ^ (k + 1) ≤ w := h3.resolve_left e
    omega
theorem ed_dig10 {w D : Nat} (h : ed_dig w D) (hw : 10 ≤ w) : 2 ≤ D ∧ ed_dig (w / 10) (D - 1) := by
  obtain ⟨h1, h2, h3⟩ := h
  have h6 : D ≠ 1 := by
    intro e
    subst e
    rw [Nat.pow_one] at h2
    omega
  obtain ⟨k, rfl⟩ : ∃ k, D = k + 2 := ⟨D - 2, by omega⟩
  have h4 : 10 ^ (k + 1) = 10 ^ k * 10 := Nat.pow_succ _ _
  have h5 : 10 ^ (k + 2) = 10 ^ (k + 1) * 10 := Nat.pow_succ _ _
  have h7 : 10 ^ (k + 1) ≤ w := h3.resolve_left (by omega)
  refine ⟨by omega, by omega, ?_, Or.inr ?_⟩
  · show w / 10 < 10 ^ (k + 1)
    omega
  · show 10 ^ k ≤ w / 10
    omega
theorem ed_dig100 {w D : Nat} (h : ed_dig w D) (hw : 100 ≤ w) : 3 ≤ D ∧ ed_dig (w / 100) (D - 2) := by
  obtain ⟨h1, h2⟩ := ed_dig10 h (by omega)
  obtain ⟨h3, h4⟩ := ed_dig10 h2 (by omega)
  rw [Nat.div_div_eq_div_mul] at h4
  exact ⟨by omega, h4⟩
theorem ed_digZ {v D j : Nat} (h : ed_dig v D) (hj : 1 ≤ j) : v / 10 ^ j = 0 ↔ D ≤ j := by
  obtain ⟨h1, h2, h3⟩ := h
  rw [Nat.div_eq_zero_iff_lt (Nat.pow_pos (by decide))]
  constructor
  · intro hv
    refine Nat.le_of_not_lt (fun hlt => ?_)
    have h4 : 10 ^ (D - 1) ≤ v := h3.resolve_left (by omega)
    have h5 : 10 ^ j ≤ 10 ^ (D - 1) := Nat.pow_le_pow_right (by decide) (by omega)
    omega
  · intro hd
    have h5 : 10 ^ D ≤ 10 ^ j := Nat.pow_le_pow_right (by decide) hd
    omega
theorem ed_digU {v D E : Nat} (h : ed_dig v D) (h2 : ed_dig v E) : D = E := by
  have h3 := (ed_digZ h h.1).mpr (Nat.le_refl D)
  have h4 := (ed_digZ h2 h2.1).mpr (Nat.le_refl E)
  have h5 := (ed_digZ h h2.1).mp h4
  have h6 := (ed_digZ h2 h.1).mp h3
  omega
theorem ed_digK {v : Nat} : ∀ k, v < 10 ^ (k + 1) → ∃ D, D ≤ k + 1 ∧ ed_dig v D := by
  intro k
  induction k with
  | zero => exact fun h => ⟨1, by omega, by omega, h, Or.inl rfl⟩
  | succ k ih =>
    intro h
    by_cases h1 : v < 10 ^ (k + 1)
    · obtain ⟨D, h2, h3⟩ := ih h1
      exact ⟨D, by omega, h3⟩
    · exact ⟨k + 2, by omega, by omega, h, Or.inr (by show 10 ^ (k + 1) ≤ v; omega)⟩
theorem ed_digE {v : Nat} (h : v ≤ 2 ^ 63) : ∃ D, D ≤ 19 ∧ ed_dig v D := ed_digK 18 (Nat.lt_of_le_of_lt h (by decide))
end
section
/-! Long.stringSize -/
theorem ed_ss {post : Int32 → Prop} {v : Nat} {x2 : Int32} (hv : v ≤ 2 ^ 63) (hp : ∀ D, D ≤ 19 → ed_dig v D → post (nI D + x2)) :
    ∀ (k i : Nat), i + k = 19 → 1 ≤ i → (i = 1 ∨ 10 ^ (i - 1) ≤ v) → wJ13_stringSize_95d88_565d2_20 post (-lN v) x2 (k + 1) (-lN (10 ^ i)) (nI i) := by
  intro k
  induction k with
  | zero =>
    intro i hi h1 h3
    obtain rfl : i = 19 := by omega
    rw [wJ13_stringSize_95d88_565d2_20]
    exact br_t (show nI 19 ≤ nI 19 from nI_le (by decide) (by decide)) (hp 19 (by decide) ⟨by decide, Nat.lt_of_le_of_lt hv (by decide), h3⟩)
  | succ k ih =>
    intro i hi h1 h3
    have h18 : 10 ^ i ≤ 10 ^ 18 := Nat.pow_le_pow_right (by decide) (by omega)
    have hb : 10 ^ i ≤ 2 ^ 63 := Nat.le_trans h18 (by decide)
    rw [wJ13_stringSize_95d88_565d2_20]
    refine br_f (show ¬ nI 19 ≤ nI i from nI_ge (by omega) (by decide)) ?_
    by_cases h : 10 ^ i ≤ v
    · refine br_t ((ed_nle hv hb).mpr h) (nm_r (e' := -lN (10 ^ (i + 1))) ?_ (nm_r (nI_1 i) (ih (i + 1) (by omega) (by omega) (Or.inr h))))
      show lN 10 * -lN (10 ^ i) = -lN (10 ^ (i + 1))
      rw [Int64.mul_neg, lN_mul, Nat.pow_succ, Nat.mul_comm]
    · exact br_f (fun z => h ((ed_nle hv hb).mp z)) (hp i (by omega) ⟨h1, by omega, h3⟩)
theorem ed_stringSize {post : Int32 → Prop} {b : Bool} {v D : Nat} (hV : ed_V b v) (hb : b = true → 0 < v) (hD : ed_dig v D) (hp : post (nI (D + b.toNat))) : wpJ13_stringSize_95d88_565d2 post () (ed_S b v) := by
  cases b with
  | true =>
    refine br_t (ed_Sneg hV.1 (hb rfl)) ⟨19, ?_⟩
    have h9 := ed_ss (post := post) (x2 := 1) hV.1 (fun E _ h2 => by rw [nI_1, ed_digU h2 hD]; exact hp) 18 1 rfl (by decide) (Or.inl rfl)
    exact h9
  | false =>
    refine br_f (ed_Spos (hV.2 rfl)) (nm_e ⟨19, ?_⟩)
    have h9 := ed_ss (post := post) (x2 := nI 0) hV.1 (fun E _ h2 => by rw [nI_add, ed_digU h2 hD]; exact hp) 18 1 rfl (by decide) (Or.inl rfl)
    exact h9
/-! Long.getChars: the part over ints, then the part over longs -/
theorem ed_gc86 {P : Int32 → StJf0261 → Prop} {x8 : Int32} {m n : Nat} (hm : m ≤ 65536) : ∀ (f w D p : Nat) (a : Nat → Int32), w < f → w < 2 ^ 31 → ed_dig w D → p = n + D → p ≤ m →
    (∀ a', (∀ j, j < n ∨ p ≤ j → a' j = a j) → (∀ i, i < D → a' (p - 1 - i) = sb_b (48 + w / 10 ^ i % 10)) → (sb_Fit a → sb_Fit a') → wJ13_getChars_11360_543e4_178 P (nI n) x8 a' m) →
    wJ13_getChars_11360_543e4_86 P x8 m f (nI p) (-nI w) a := by
  intro f
  induction f with
  | zero =>
    intro w D p a h
    omega
  | succ f ih =>
    intro w D p a hwf hw hD hp hpm hP
    have hd1 := hD.1
    have e1 : -(-nI w) = nI w := Int32.neg_neg
    have ew : (nI w).toNatClampNeg = w := nI_clamp hw
    rw [wJ13_getChars_11360_543e4_86]
    by_cases h100 : w < 100
    · obtain ⟨t1, t2⟩ := sb_tab w h100
      refine br_t (show -nI 100 < -nI w from (sb_nlt (by decide) hw).mpr h100) (nm_r (sb_m1 (by omega)) ⟨by rw [e1]; exact vp_in_nI h100 (by decide), vp_in_nI (by omega) (by omega), ?_⟩)
      refine nm_r (e' := upd a (p - 1) (sb_b (48 + w % 10))) (by rw [e1, ew, nI_clamp (by omega), t1]) ?_
      by_cases h9 : w < 10
      · have hd : D = 1 := ed_dig1 hD h9
        refine br_t (show -nI 9 ≤ -nI w from (sb_nle (by decide) hw).mpr (by omega)) ?_
        rw [show nI (p - 1) = nI n from congrArg nI (by omega)]
        refine hP _ (fun j hj => pk_un (by omega)) (fun i hi => ?_) (fun hf => sb_fitU hf (sb_fitB _))
        obtain rfl : i = 0 := by omega
        rw [Nat.sub_zero, pk_us, Nat.pow_zero, Nat.div_one]
      · obtain ⟨hd2, hd3⟩ := ed_dig10 hD (by omega)
        have hd4 := ed_dig1 hd3 (by omega)
        have hd : D = 2 := by omega
        have d2 : w / 10 % 10 = w / 10 := by omega
        refine br_f (fun z => by have := (sb_nle (by decide) hw).mp (show -nI 9 ≤ -nI w from z); omega) (nm_r (sb_m1 (by omega)) ⟨by rw [e1]; exact vp_in_nI h100 (by decide), vp_in_nI (by omega) (by omega), ?_⟩)
        refine nm_r (e' := upd (upd a (p - 1) (sb_b (48 + w % 10))) (p - 1 - 1) (sb_b (48 + w / 10))) (by rw [e1, ew, nI_clamp (by omega), t2]) ?_
        rw [show nI (p - 1 - 1) = nI n from congrArg nI (by omega)]
        refine hP _ (fun j hj => by rw [pk_un (by omega), pk_un (by omega)]) (fun i hi => ?_) (fun hf => sb_fitU (sb_fitU hf (sb_fitB _)) (sb_fitB _))
        obtain rfl | rfl : i = 0 ∨ i = 1 := by omega
        · rw [Nat.sub_zero, pk_un (by omega), pk_us, Nat.pow_zero, Nat.div_one]
        · rw [pk_us, Nat.pow_one, d2]
    · obtain ⟨t1, t2⟩ := sb_tab (w % 100) (Nat.mod_lt _ (by decide))
      obtain ⟨hd, hd2⟩ := ed_dig100 hD (by omega)
      have er : (nI (w % 100)).toNatClampNeg = w % 100 := nI_clamp (by omega)
      rw [show w % 100 % 10 = w % 10 by omega] at t1
      rw [show w % 100 / 10 = w / 10 % 10 by omega] at t2
      refine br_f (fun z => h100 ((sb_nlt (by decide) hw).mp (show -nI 100 < -nI w from z))) ⟨by decide, nm_r (sb_ndiv hw) (nm_r (sb_nrem hw) (nm_r (sb_m1 (by omega)) ⟨vp_in_nI (by omega) (by decide), vp_in_nI (by omega) (by omega), ?_⟩))⟩
      refine nm_r (e' := upd a (p - 1) (sb_b (48 + w % 10))) (by rw [er, nI_clamp (by omega), t1]) (nm_r (sb_m1 (by omega)) ⟨vp_in_nI (by omega) (by decide), vp_in_nI (by omega) (by omega), ?_⟩)
      refine nm_r (e' := upd (upd a (p - 1) (sb_b (48 + w % 10))) (p - 1 - 1) (sb_b (48 + w / 10 % 10))) (by rw [er, nI_clamp (by omega), t2]) ?_
      refine ih (w / 100) (D - 2) (p - 1 - 1) _ (by omega) (by omega) hd2 (by omega) (by omega) (fun a' h1 h2 h3 => ?_)
      refine hP a' (fun j hj => by rw [h1 j (by omega), pk_un (by omega), pk_un (by omega)]) (fun i hi => ?_) (fun hf => h3 (sb_fitU (sb_fitU hf (sb_fitB _)) (sb_fitB _)))
      match i, hi with
      | 0, _ => rw [Nat.sub_zero, h1 _ (by omega), pk_un (by omega), pk_us, Nat.pow_zero, Nat.div_one]
      | 1, _ => rw [h1 _ (by omega), pk_us, Nat.pow_one]
      | k + 2, hi =>
        rw [show p - 1 - (k + 2) = p - 1 - 1 - 1 - k by omega, h2 k (by omega), Nat.div_div_eq_div_mul, show 100 * 10 ^ k = 10 ^ (k + 2) by rw [show k + 2 = k + 1 + 1 from rfl, Nat.pow_succ, Nat.pow_succ]; omega]
theorem ed_gc24 {P : Int32 → StJf0261 → Prop} {x8 : Int32} {m n : Nat} (hm : m ≤ 65536) : ∀ (f w D p : Nat) (a : Nat → Int32), w < f → w ≤ 2 ^ 63 → ed_dig w D → p = n + D → p ≤ m →
    (∀ a', (∀ j, j < n ∨ p ≤ j → a' j = a j) → (∀ i, i < D → a' (p - 1 - i) = sb_b (48 + w / 10 ^ i % 10)) → (sb_Fit a → sb_Fit a') → wJ13_getChars_11360_543e4_178 P (nI n) x8 a' m) →
    wJ13_getChars_11360_543e4_24 P x8 m f (-lN w) (nI p) a := by
  intro f
  induction f with
  | zero =>
    intro w D p a h
    omega
  | succ f ih =>
    intro w D p a hwf hw hD hp hpm hP
    have hd1 := hD.1
    rw [wJ13_getChars_11360_543e4_24]
    by_cases h31 : w < 2147483648
    · refine br_t (show -lN 2147483648 < -lN w from (ed_nlt (by decide) hw).mpr h31) ⟨w + 1, ?_⟩
      rw [ed_n32]
      exact ed_gc86 hm (w + 1) w D p a (by omega) (by omega) hD hp hpm hP
    · obtain ⟨t1, t2⟩ := sb_tab (w % 100) (Nat.mod_lt _ (by decide))
      obtain ⟨hd, hd2⟩ := ed_dig100 hD (by omega)
      have er : (nI (w % 100)).toNatClampNeg = w % 100 := nI_clamp (by omega)
      rw [show w % 100 % 10 = w % 10 by omega] at t1
      rw [show w % 100 / 10 = w / 10 % 10 by omega] at t2
      refine br_f (fun z => h31 ((ed_nlt (by decide) hw).mp (show -lN 2147483648 < -lN w from z))) ⟨by decide, nm_r (ed_ndiv hw 100 (by decide) (by decide)) (nm_r (e' := nI (w % 100)) (by rw [ed_nrem100, lN_i]) (nm_r (sb_m1 (by omega)) ⟨vp_in_nI (by omega) (by decide), vp_in_nI (by omega) (by omega), ?_⟩))⟩
      refine nm_r (e' := upd a (p - 1) (sb_b (48 + w % 10))) (by rw [er, nI_clamp (by omega), t1]) (nm_r (sb_m1 (by omega)) ⟨vp_in_nI (by omega) (by decide), vp_in_nI (by omega) (by omega), ?_⟩)
      refine nm_r (e' := upd (upd a (p - 1) (sb_b (48 + w % 10))) (p - 1 - 1) (sb_b (48 + w / 10 % 10))) (by rw [er, nI_clamp (by omega), t2]) ?_
      refine ih (w / 100) (D - 2) (p - 1 - 1) _ (by omega) (by omega) hd2 (by omega) (by omega) (fun a' h1 h2 h3 => ?_)
      refine hP a' (fun j hj => by rw [h1 j (by omega), pk_un (by omega), pk_un (by omega)]) (fun i hi => ?_) (fun hf => h3 (sb_fitU (sb_fitU hf (sb_fitB _)) (sb_fitB _)))
      match i, hi with
      | 0, _ => rw [Nat.sub_zero, h1 _ (by omega), pk_un (by omega), pk_us, Nat.pow_zero, Nat.div_one]
      | 1, _ => rw [h1 _ (by omega), pk_us, Nat.pow_one]
      | k + 2, hi =>
        rw [show p - 1 - (k + 2) = p - 1 - 1 - 1 - k by omega, h2 k (by omega), Nat.div_div_eq_div_mul, show 100 * 10 ^ k = 10 ^ (k + 2) by rw [show k + 2 = k + 1 + 1 from rfl, Nat.pow_succ, Nat.pow_succ]; omega]
/-! StringBuilder.append(long) on an empty builder: the text from its end is ed_R -/
def ed_R (v D : Nat) (j : Nat) : Nat := if j < D then 48 + v / 10 ^ j % 10 else 45
theorem ed_R256 (v D j : Nat) : ed_R v D j < 256 := by
  unfold ed_R
  split <;> omega
theorem ed_appendLong {post : StJ4ec0e → Prop} {mc ms : Nat} {ml : Int32} {a : Nat → Int32} {m v D : Nat} {b : Bool} (hm : m ≤ 65536) (hf : sb_Fit a) (hV : ed_V b v) (hb : b = true → 0 < v) (hD : ed_dig v D) (hD2 : D ≤ 19)
    (hr : sb_Room (D + b.toNat) m mc ms)
    (hp : ∀ a', sb_Lat (fun i => ed_R v D (D + b.toNat - 1 - i)) (D + b.toNat) a' → sb_Fit a' → post (0, ml, nI (D + b.toNat), a', sb_cap (D + b.toNat) m)) : wpJ4_append_f7089_709b5 post mc ms (0, ml, 0, a, m) (ed_S b v) := by
  have hg := sb_cap_ge (D + b.toNat) m
  have hl := sb_cap_le hm hr
  have hb1 : b.toNat ≤ 1 := by cases b <;> decide
  have hd1 := hD.1
  refine ⟨mc, ms, by omega, by omega, ?_⟩
  refine ed_stringSize hV hb hD (nm_r (Int32.zero_add (nI (D + b.toNat))) ⟨mc, ms, by omega, by omega, ?_⟩)
  refine sb_ensure hm (by omega) hf hr (fun a' hf' hk => ?_)
  refine br_t rfl (br_f (by decide) ?_)
  cases b with
  | true =>
    refine br_f (ed_Snle hV.1 (hb rfl)) (br_f (by decide) ⟨v + 1, ?_⟩)
    refine ed_gc24 (n := 1) hl (v + 1) v D (D + 1) a' (by omega) hV.1 hD (by omega) hg (fun a2 h1 h2 h3 => ?_)
    refine br_f (by decide) (nm_r (pk_m1 0) ⟨vp_in_nI (by omega) (by omega), nm_r (e' := upd a2 0 (sb_b 45)) (by rw [nI_clamp (by decide), vp_nar_byte]; rfl) ?_⟩)
    refine hp _ (fun j hj => ?_) (sb_fitU (h3 hf') (sb_fitB _))
    have hj' : j < D + 1 := hj
    refine ⟨ed_R256 _ _ _, ?_⟩
    show upd a2 0 (sb_b 45) j = sb_b (ed_R v D (D + 1 - 1 - j))
    by_cases h0 : j = 0
    · subst h0
      rw [pk_us, ed_R, if_neg (by omega)]
    · have h9 := h2 (D - j) (by omega)
      rw [show D + 1 - 1 - (D - j) = j by omega] at h9
      rw [pk_un h0, h9, ed_R, if_pos (by omega), show D + 1 - 1 - j = D - j by omega]
  | false =>
    refine br_t (ed_Sle (hV.2 rfl)) (br_t rfl (nm_e ⟨v + 1, ?_⟩))
    refine ed_gc24 (n := 0) hl (v + 1) v D D a' (by omega) hV.1 hD (by omega) hg (fun a2 h1 h2 h3 => ?_)
    refine br_t rfl (hp _ (fun j hj => ?_) (h3 hf'))
    have hj' : j < D := hj
    refine ⟨ed_R256 _ _ _, ?_⟩
    show a2 j = sb_b (ed_R v D (D - 1 - j))
    have h9 := h2 (D - 1 - j) (by omega)
    rw [show D - 1 - (D - 1 - j) = j by omega] at h9
    rw [h9, ed_R, if_pos (by omega)]
/-! StringBuilder.insert(int, char) -/
theorem ed_checkOffset {post : Unit → Prop} {i n : Nat} (hi : i ≤ n) (hn : n < 2 ^ 31) (hp : post ()) : wpJ0_checkOffset_df160_48e5c post () (nI i) (nI n) :=
  ⟨br_f (nI_pos (by omega)) (br_f (nI_nlt hi hn) (br_t (nI_le (Nat.le_refl n) hn) hp)), br_f (nI_pos (by omega)) (br_f (nI_nlt hi hn) (br_t (nI_le (Nat.le_refl n) hn) hp))⟩
def ed_ins (t : Nat → Nat) (i c : Nat) (j : Nat) : Nat := if j < i then t j else if j = i then c else t (j - 1)
theorem ed_insert {post : StJ4ec0e → Prop} {mc ms : Nat} {ml : Int32} {t : Nat → Nat} {a : Nat → Int32} {n m i c : Nat} (hin : i ≤ n) (hnm : n ≤ m) (hm : m ≤ 65536) (hL : sb_Lat t n a) (hf : sb_Fit a) (hc : c < 256) (hr : sb_Room (n + 1) m mc ms)
    (hp : ∀ a', sb_Lat (ed_ins t i c) (n + 1) a' → sb_Fit a' → post (0, ml, nI (n + 1), a', sb_cap (n + 1) m)) : wpJ4_insert_a3ee8_fc066 post mc ms (0, ml, nI n, a, m) (nI i) (nI c) := by
  have hg := sb_cap_ge (n + 1) m
  have hl := sb_cap_le hm hr
  refine ⟨mc, ms, by omega, by omega, ?_⟩
  rw [wpJ5_insert_00e82_fc066]
  refine ed_checkOffset hin (by omega) ⟨mc, ms, by omega, by omega, ?_⟩
  rw [nI_1]
  refine sb_ensure hm (by omega) hf hr (fun a' hf' hk => ?_)
  unfold wpJ5_shift_df160_fc066
  dsimp only
  rw [sb_shl0, sb_shl0, sb_shl0, nI_1, pk_sub hin, nI_clamp (n := i) (by omega), nI_clamp (n := i + 1) (by omega), nI_clamp (n := n - i) (by omega)]
  refine ⟨nI_pos (by omega), nI_pos (by omega), nI_pos (by omega), by omega, by omega, fun i _ => hf' _, nm_e (nm_r (nI_1 n) ?_)⟩
  refine br_t rfl (br_f (by decide) ?_)
  refine br_f (show ¬ nI 255 < nI c from nI_nlt (by omega) (by decide)) (br_f (by decide) ?_)
  refine ⟨vp_in_nI (by omega) (by omega), nm_r (e' := upd (va_cpy a' a' i (i + 1) (n - i)) i (sb_b c)) (by rw [pk_vb]; rfl) ?_⟩
  refine hp _ (fun j hj => ?_) (sb_fitU (sb_fitC hf' hf') (sb_fitB c))
  unfold ed_ins
  by_cases h1 : j < i
  · rw [if_pos h1, pk_un (by omega), pk_cpy_out (by omega), hk j (by omega)]
    exact hL j (by omega)
  · rw [if_neg h1]
    by_cases h2 : j = i
    · subst h2
      rw [if_pos rfl, pk_us]
      exact ⟨hc, rfl⟩
    · rw [if_neg h2, pk_un h2, pk_cpy_in (by omega) (by omega), show i + (j - (i + 1)) = j - 1 by omega, hk _ (by omega)]
      exact hL _ (by omega)
end
section
/-! texts read from their end: R with a comma behind each three letters; ed_B: with k commas so far -/
def ed_B (R : Nat → Nat) (k j : Nat) : Nat := if j < 4 * k then (if j % 4 = 3 then 44 else R (j - j / 4)) else R (j - k)
def ed_G (R : Nat → Nat) (j : Nat) : Nat := if j % 4 = 3 then 44 else R (j - j / 4)
theorem ed_B0 (R : Nat → Nat) (j : Nat) : ed_B R 0 j = R j := by
  unfold ed_B
  rw [if_neg (by omega), Nat.sub_zero]
theorem ed_BG {R : Nat → Nat} {k j : Nat} (h : j < 4 * k + 3) : ed_B R k j = ed_G R j := by
  unfold ed_B ed_G
  by_cases h1 : j < 4 * k
  · rw [if_pos h1]
  · rw [if_neg h1, if_neg (by omega)]
    exact congrArg R (by omega)
theorem ed_latC {t t' : Nat → Nat} {n : Nat} {a : Nat → Int32} (h : sb_Lat t n a) (e : ∀ j, j < n → t' j = t j) : sb_Lat t' n a := fun j hj => by
  rw [e j hj]
  exact h j hj
theorem ed_Bs {R : Nat → Nat} {k J : Nat} (h : J < 4 * k + 3) : ed_B R (k + 1) J = ed_B R k J := by
  rw [ed_BG h, ed_BG (by omega)]
theorem ed_Bstep {R : Nat → Nat} {k n0 j : Nat} (h : 3 * k + 3 < n0) (hj : j < n0 + k + 1) :
    ed_B R (k + 1) (n0 + (k + 1) - 1 - j) = ed_ins (fun i => ed_B R k (n0 + k - 1 - i)) (n0 - (3 * k + 3)) 44 j := by
  unfold ed_ins
  by_cases h1 : j < n0 - (3 * k + 3)
  · rw [if_pos h1]
    show ed_B R (k + 1) (n0 + (k + 1) - 1 - j) = ed_B R k (n0 + k - 1 - j)
    rw [ed_B, if_neg (by omega), ed_B, if_neg (by omega)]
    exact congrArg R (by omega)
  · rw [if_neg h1]
    by_cases h2 : j = n0 - (3 * k + 3)
    · rw [if_pos h2, ed_B, if_pos (by omega), if_pos (by omega)]
    · rw [if_neg h2]
      show ed_B R (k + 1) (n0 + (k + 1) - 1 - j) = ed_B R k (n0 + k - 1 - (j - 1))
      rw [show n0 + k - 1 - (j - 1) = n0 + (k + 1) - 1 - j by omega]
      exact ed_Bs (by omega)
theorem ed_G256 {R : Nat → Nat} (h : ∀ j, R j < 256) (j : Nat) : ed_G R j < 256 := by
  unfold ed_G
  split
  · decide
  · exact h _
theorem ed_GR (R : Nat → Nat) (j : Nat) : ed_G R (j + j / 3) = R j := by
  unfold ed_G
  rw [if_neg (by omega)]
  exact congrArg R (by omega)
theorem ed_GC (R : Nat → Nat) {j : Nat} (h0 : 0 < j) (h : j % 3 = 0) : ed_G R (j + (j - 1) / 3) = 44 := by
  unfold ed_G
  rw [if_pos (by omega)]
/-! what a builder that began with 16 places has taken: one growth, to 34, at most -/
def ed_ok (K S m kc ks : Nat) : Prop := (m = 16 ∧ kc ≤ K ∧ ks ≤ S) ∨ (m = 34 ∧ kc ≤ K + 1 ∧ ks ≤ S + 34)
theorem ed_okB {K S m kc ks : Nat} (h : ed_ok K S m kc ks) : m ≤ 65536 ∧ kc ≤ K + 1 ∧ ks ≤ S + 34 := by
  unfold ed_ok at h
  omega
theorem ed_room {K S m kc ks mc ms : Nat} (q : Nat) (h : ed_ok K S m kc ks) (hq : q ≤ 34) (hmc : K + 1 ≤ mc) (hms : S + 34 ≤ ms) :
    ∃ c s, kc + c ≤ mc ∧ ks + s ≤ ms ∧ sb_Room q m c s ∧ ed_ok K S (sb_cap q m) (kc + c) (ks + s) := by
  by_cases h1 : q ≤ m
  · have e : sb_cap q m = m := if_pos h1
    have hb := ed_okB h
    exact ⟨0, 0, by omega, by omega, Or.inl h1, by rw [e]; exact h⟩
  · unfold ed_ok at h
    have hm : m = 16 := by omega
    subst hm
    have e : sb_cap q 16 = 34 := by
      unfold sb_cap
      rw [if_neg h1, if_neg (by omega)]
    refine ⟨1, 34, by omega, by omega, Or.inr (by rw [e]; decide), ?_⟩
    rw [e]
    exact Or.inr ⟨rfl, by omega, by omega⟩
/-- append(char) out of what is left: the text t goes on -/
theorem ed_app {Q : Nat → Nat → StJ4ec0e → Prop} {mc ms K S kc ks m n c : Nat} {t : Nat → Nat} {a : Nat → Int32} (hok : ed_ok K S m kc ks) (hn : n < 34) (hnm : n ≤ m) (hmc : K + 1 ≤ mc) (hms : S + 34 ≤ ms) (hL : sb_Lat t n a) (hf : sb_Fit a) (hc : t n = c) (hc2 : c < 256)
    (hp : ∀ c' s' m' a', ed_ok K S m' (kc + c') (ks + s') → n + 1 ≤ m' → sb_Lat t (n + 1) a' → sb_Fit a' → Q c' s' (0, 0, nI (n + 1), a', m')) :
    ∃ c' s' : Nat, kc + c' ≤ mc ∧ ks + s' ≤ ms ∧ wpJ4_append_cf468_b0715 (Q c' s') c' s' (0, 0, nI n, a, m) (nI c) := by
  obtain ⟨c', s', h1, h2, hr, hk⟩ := ed_room (n + 1) hok (by omega) hmc hms
  refine ⟨c', s', h1, h2, sb_appendChar hnm (ed_okB hok).1 hL hf hc2 hr (fun a' hL' hf' => ?_)⟩
  refine hp c' s' _ a' hk (sb_cap_ge _ _) (ed_latC hL' (fun j hj => ?_)) hf'
  unfold sb_cat
  by_cases h : j < n
  · rw [if_pos h]
  · rw [if_neg h, ← hc]
    exact congrArg t (by omega)
theorem ed_init {post : StJ4ec0e → Prop} (hp : post (0, 0, 0, fun _ => 0, 16)) : wpJ4_init_da8c8_e1428 post 1 16 (0, 0, 0) :=
  ⟨1, 16, by decide, by decide, by decide, nm_r (e' := 16) (by decide) ⟨by decide, by decide, by decide, hp⟩⟩
end
section
/-! EditedTexts.grouped -/
theorem ed_m3 (a b : Nat) : nI a - nI b + (-3) = nI a - nI (b + 3) := by
  rw [← nI_add]
  show nI a - nI b + (-nI 3) = nI a - (nI b + nI 3)
  grind
theorem ed_x0 {post : St1 → Prop} {mc ms K S n0 : Nat} {R : Nat → Nat} (h0 : 1 ≤ n0) (h20 : n0 ≤ 20) (hmc : K + 3 ≤ mc) (hms : S + 64 ≤ ms)
    (hp : ∀ a', sb_Lat (fun i => ed_G R (n0 + (n0 - 1) / 3 - 1 - i)) (n0 + (n0 - 1) / 3) a' → sb_Fit a' → post (0, 0, 0, a', n0 + (n0 - 1) / 3)) :
    ∀ (d k kc ks m : Nat) (a : Nat → Int32), k + d = (n0 - 1) / 3 → ed_ok K S m kc ks → n0 + k ≤ m → sb_Lat (fun i => ed_B R k (n0 + k - 1 - i)) (n0 + k) a → sb_Fit a →
    wX0_grouped_19 post mc ms (d + 1) (nI n0 - nI (3 * k + 3)) kc ks 0 0 (nI (n0 + k)) a m := by
  intro d
  induction d with
  | zero =>
    intro k kc ks m a hk hok hm hL hf
    have hb := ed_okB hok
    have e1 : (nI n0 - nI (3 * k + 3)).toInt = (n0 : Int) - ((3 * k + 3 : Nat) : Int) := pk_sub_toInt (by omega) (by omega)
    obtain rfl : k = (n0 - 1) / 3 := by omega
    rw [wX0_grouped_19]
    refine br_t (by rw [Int32.le_iff_toInt_le, e1, Int32.toInt_zero]; omega) ⟨2, 30, by omega, by omega, ?_⟩
    refine sb_toString hm hb.1 hL hf (by decide) (by omega) (fun a' hL' hf' => ?_)
    exact hp a' (ed_latC hL' (fun j hj => (ed_BG (by omega)).symm)) hf'
  | succ d ih =>
    intro k kc ks m a hk hok hm hL hf
    have hb := ed_okB hok
    have h3 : 3 * k + 3 < n0 := by omega
    have e3 : nI (n0 - (3 * k + 3)) + (-3) = nI n0 - nI (3 * (k + 1) + 3) := by
      rw [← pk_sub (by omega)]
      exact ed_m3 _ _
    obtain ⟨c, s, h1, h2, hr, hk2⟩ := ed_room (mc := mc) (ms := ms) (n0 + k + 1) hok (by omega) (by omega) (by omega)
    rw [wX0_grouped_19, pk_sub (by omega)]
    refine br_f (nI_nle (by omega) (by omega)) ⟨c, s, h1, h2, ?_⟩
    refine ed_insert (i := n0 - (3 * k + 3)) (c := 44) (by omega) hm hb.1 hL hf (by decide) hr (fun a' hL' hf' => ?_)
    refine nm_r e3 ?_
    exact ih (k + 1) _ _ _ a' (by omega) hk2 (sb_cap_ge _ _) (ed_latC hL' (fun j hj => ed_Bstep h3 hj)) hf'
theorem ed_X0 {post : St1 → Prop} {mc ms v D : Nat} {b : Bool} (hV : ed_V b v) (hb : b = true → 0 < v) (hD : ed_dig v D) (hD2 : D ≤ 19) (hmc : 5 ≤ mc) (hms : 84 ≤ ms)
    (hp : ∀ a', sb_Lat (fun i => ed_G (ed_R v D) (D + b.toNat + (D + b.toNat - 1) / 3 - 1 - i)) (D + b.toNat + (D + b.toNat - 1) / 3) a' → sb_Fit a' → post (0, 0, 0, a', D + b.toNat + (D + b.toNat - 1) / 3)) :
    wpX0_grouped post mc ms () (ed_S b v) := by
  have hb1 : b.toNat ≤ 1 := by cases b <;> decide
  have hd1 := hD.1
  refine ⟨by omega, by omega, 1, 16, by omega, by omega, ed_init ?_⟩
  obtain ⟨c, s, h1, h2, hr, hk⟩ := ed_room (K := 2) (S := 20) (m := 16) (kc := 1 + 1) (ks := 4 + 16) (mc := mc) (ms := ms) (D + b.toNat) (Or.inl ⟨rfl, by decide, by decide⟩) (by omega) (by omega) (by omega)
  refine ⟨c, s, h1, h2, ed_appendLong (by decide) sb_fit0 hV hb hD hD2 hr (fun a' hL hf => ?_)⟩
  refine nm_e ⟨(D + b.toNat - 1) / 3 + 1, ?_⟩
  exact ed_x0 (K := 2) (S := 20) (R := ed_R v D) (by omega) (by omega) (by omega) (by omega) hp _ 0 _ _ _ a' (by omega) hk (sb_cap_ge _ _) (ed_latC hL (fun j hj => ed_B0 _ _)) hf
end
section
/-! EditedTextsPlain.grouped: the text written from its end, then turned round -/
theorem ed_m1 (a b : Nat) : nI a - nI b + (-1) = nI a - nI (b + 1) := by
  rw [← nI_add]
  show nI a - nI b + (-nI 1) = nI a - (nI b + nI 1)
  grind
theorem ed_x142 {post : St1 → Prop} {mc ms K S N mb : Nat} {g : Nat → Nat} {ab : Nat → Int32} (hN : N ≤ 26) (hmc : K + 3 ≤ mc) (hms : S + 64 ≤ ms) (hg : ∀ j, g j < 256) (hbm : N ≤ mb) (hbm2 : mb ≤ 65536) (hbL : sb_Lat g N ab)
    (hp : ∀ a', sb_Lat (fun i => g (N - 1 - i)) N a' → sb_Fit a' → post (0, 0, 0, a', N)) :
    ∀ (d n kc ks m : Nat) (a : Nat → Int32), n + d = N → ed_ok K S m kc ks → n ≤ m → sb_Lat (fun i => g (N - 1 - i)) n a → sb_Fit a →
    wX1_grouped_142 post mc ms (d + 1) (nI N - nI (n + 1)) kc ks 0 0 (nI N) ab mb 0 0 (nI n) a m := by
  intro d
  induction d with
  | zero =>
    intro n kc ks m a hn hok hm hL hf
    have hb := ed_okB hok
    obtain rfl : n = N := by omega
    rw [wX1_grouped_142]
    refine br_t (pk_sneg (by omega) (by omega)) ⟨2, 30, by omega, by omega, ?_⟩
    exact sb_toString hm hb.1 hL hf (by decide) (by omega) (fun a' hL' hf' => hp a' hL' hf')
  | succ d ih =>
    intro n kc ks m a hn hok hm hL hf
    have e1 : nI (N - (n + 1)) + (-1) = nI N - nI (n + 1 + 1) := by
      rw [← pk_sub (by omega)]
      exact ed_m1 _ _
    rw [wX1_grouped_142, pk_sub (by omega)]
    refine br_f (nI_pos (by omega)) (sb_charAt hbm hbm2 hbL (i := N - (n + 1)) (by omega) ?_)
    refine ed_app hok (by omega) hm (by omega) (by omega) hL hf (congrArg g (by omega)) (hg _) (fun c' s' m' a' hok' hm' hL' hf' => ?_)
    refine nm_r e1 ?_
    exact ih (n + 1) _ _ _ a' (by omega) hok' hm' hL' hf'
theorem ed_x125 {post : St1 → Prop} {mc ms kc ks N mb : Nat} {g : Nat → Nat} {ab : Nat → Int32} (hN : N ≤ 26) (hmc : kc + 5 ≤ mc) (hms : ks + 84 ≤ ms) (hg : ∀ j, g j < 256) (hbm : N ≤ mb) (hbm2 : mb ≤ 65536) (hbL : sb_Lat g N ab)
    (hp : ∀ a', sb_Lat (fun i => g (N - 1 - i)) N a' → sb_Fit a' → post (0, 0, 0, a', N)) : wX1_grouped_125 post mc ms kc ks 0 0 (nI N) ab mb := by
  refine ⟨by omega, by omega, 1, 16, by omega, by omega, ed_init ?_⟩
  refine nm_e ⟨N + 1, ?_⟩
  exact ed_x142 (K := kc + 2) (S := ks + 20) hN (by omega) (by omega) hg hbm hbm2 hbL hp N 0 _ _ 16 _ (by omega) (Or.inl ⟨rfl, by omega, by omega⟩) (by omega) (fun j hj => absurd hj (Nat.not_lt_zero j)) sb_fit0
/-- the minus sign -/
theorem ed_x118 {post : St1 → Prop} {mc ms kc ks n m : Nat} {g : Nat → Nat} {a : Nat → Int32} (hn : n < 26) (hmc : 8 ≤ mc) (hms : 138 ≤ ms) (hg : ∀ j, g j < 256) (hok : ed_ok 2 20 m kc ks) (hm : n ≤ m) (hL : sb_Lat g n a) (hf : sb_Fit a) (h45 : g n = 45)
    (hp : ∀ a', sb_Lat (fun i => g (n + 1 - 1 - i)) (n + 1) a' → sb_Fit a' → post (0, 0, 0, a', n + 1)) : wX1_grouped_118 post mc ms kc ks 0 0 (nI n) a m := by
  refine ed_app (c := 45) hok (by omega) hm (by omega) (by omega) hL hf h45 (by decide) (fun c' s' m' a' hok' hm' hL' hf' => ?_)
  have hb := ed_okB hok'
  exact ed_x125 (by omega) (by omega) (by omega) hg hm' hb.1 hL' hp
/-- behind the last digit -/
theorem ed_x16e {post : St1 → Prop} {mc ms kc ks m v D f : Nat} {b : Bool} {a : Nat → Int32} {x3 : Int64} (hV : ed_V b v) (hb : b = true → 0 < v) (hD1 : 1 ≤ D) (hD2 : D ≤ 19) (hmc : 8 ≤ mc) (hms : 138 ≤ ms)
    (hp : ∀ a', sb_Lat (fun i => ed_G (ed_R v D) (D + b.toNat + (D + b.toNat - 1) / 3 - 1 - i)) (D + b.toNat + (D + b.toNat - 1) / 3) a' → sb_Fit a' → post (0, 0, 0, a', D + b.toNat + (D + b.toNat - 1) / 3))
    (hok : ed_ok 2 20 m kc ks) (hm : D + (D - 1) / 3 ≤ m) (hL : sb_Lat (ed_G (ed_R v D)) (D + (D - 1) / 3) a) (hf : sb_Fit a) :
    wX1_grouped_16 post mc ms (ed_S b v) (f + 1) x3 (nI D) 0 kc ks 0 0 (nI (D + (D - 1) / 3)) a m := by
  have hg : ∀ j, ed_G (ed_R v D) j < 256 := ed_G256 (ed_R256 v D)
  have hk := ed_okB hok
  have e3 : nI D - nI D / 3 * 3 = nI (D % 3) := pk_rem (d := 3) (by omega) (by decide) (by decide)
  have eR : ed_R v D D = 45 := if_neg (Nat.lt_irrefl D)
  rw [wX1_grouped_16]
  refine br_t rfl ?_
  cases b with
  | false =>
    refine br_t (ed_Sle (hV.2 rfl)) ?_
    exact ed_x125 (by omega) (by omega) (by omega) hg hm hk.1 hL hp
  | true =>
    have hp' : ∀ a', sb_Lat (fun i => ed_G (ed_R v D) (D + D / 3 + 1 - 1 - i)) (D + D / 3 + 1) a' → sb_Fit a' → post (0, 0, 0, a', D + D / 3 + 1) := by
      rw [show D + D / 3 + 1 = D + 1 + (D + 1 - 1) / 3 by omega]
      exact hp
    refine br_f (ed_Snle hV.1 (hb rfl)) ⟨by decide, ?_⟩
    rw [e3]
    refine pk_eq (D % 3) 0 (fun e => ?_) (fun e => ?_)
    · refine ed_app (c := 44) hok (by omega) hm (by omega) (by omega) hL hf (ed_GC _ hD1 e) (by decide) (fun c' s' m' a' hok' hm' hL' hf' => ?_)
      rw [show D + (D - 1) / 3 + 1 = D + D / 3 by omega] at hm' hL' ⊢
      exact ed_x118 (by omega) hmc hms hg hok' hm' hL' hf' ((ed_GR _ _).trans eR) hp'
    · rw [show D + (D - 1) / 3 = D + D / 3 by omega] at hm hL ⊢
      exact ed_x118 (by omega) hmc hms hg hok hm hL hf ((ed_GR _ _).trans eR) hp'
theorem ed_abs {b : Bool} {r : Nat} {A : Int64 → Prop} (hr : r < 10) (h : A (lN r)) : (0 ≤ ed_S b r → A (ed_S b r)) ∧ (¬ 0 ≤ ed_S b r → A (-ed_S b r)) := by
  cases b with
  | false => exact br_t (ed_Sle (by omega)) h
  | true =>
    by_cases h0 : r = 0
    · subst h0
      exact br_t (by decide) h
    · refine br_f (ed_Snle (by omega) (by omega)) ?_
      show A (- -lN r)
      rw [Int64.neg_neg]
      exact h
theorem ed_chr {r : Nat} (hr : r < 10) : (((48 + lN r : Int64).toInt32).toUInt32 % 65536).toInt32 = nI (48 + r) := by
  rw [show (48 + lN r : Int64) = lN (48 + r) from lN_add 48 r, lN_i]
  exact (sb_byte (48 + r) (by omega)).2.1
/-- one digit -/
theorem ed_x40 {post : St1 → Prop} {J : Int64 → Int32 → Int32 → Nat → Nat → Int32 → Int32 → Int32 → (Nat → Int32) → Nat → Prop} {x0 : Int64} {mc ms kc ks m v D j : Nat} {b : Bool} {a : Nat → Int32} (hV : ed_V b v) (hD : ed_dig v D) (hD2 : D ≤ 19) (hj : j < D) (hmc : 8 ≤ mc) (hms : 138 ≤ ms)
    (hok : ed_ok 2 20 m kc ks) (hm : j + j / 3 ≤ m) (hL : sb_Lat (ed_G (ed_R v D)) (j + j / 3) a) (hf : sb_Fit a)
    (hJ : ∀ x6 kc' ks' m' a', (D ≤ j + 1 → x6 = 0) → (j + 1 < D → x6 = 1) → ed_ok 2 20 m' kc' ks' → j + 1 + j / 3 ≤ m' → sb_Lat (ed_G (ed_R v D)) (j + 1 + j / 3) a' → sb_Fit a' → J (ed_S b (v / 10 ^ (j + 1))) (nI (j + 1)) x6 kc' ks' 0 0 (nI (j + 1 + j / 3)) a' m') :
    wX1_grouped_40 post mc ms J x0 (ed_S b (v / 10 ^ j)) (nI j) kc ks 0 0 (nI (j + j / 3)) a m := by
  have hV2 : ed_V b (v / 10 ^ j) := ed_Vle hV (Nat.div_le_self _ _)
  have hV3 : ed_V b (v / 10 ^ (j + 1)) := ed_Vle hV (Nat.div_le_self _ _)
  have hr : v / 10 ^ j % 10 < 10 := Nat.mod_lt _ (by decide)
  have eR : ed_R v D j = 48 + v / 10 ^ j % 10 := if_pos hj
  have ed : ed_S b (v / 10 ^ j) / 10 = ed_S b (v / 10 ^ (j + 1)) := by
    rw [ed_Sdiv hV2, Nat.div_div_eq_div_mul, ← Nat.pow_succ]
  refine ⟨by decide, nm_r (ed_Srem hV2) (ed_abs (A := fun z => wX1_grouped_66 post mc ms J x0 (ed_S b (v / 10 ^ j)) (nI j) z 48 kc ks 0 0 (nI (j + j / 3)) a m) hr ?_)⟩
  unfold wX1_grouped_66
  rw [ed_chr hr]
  refine ed_app hok (by omega) hm (by omega) (by omega) hL hf ((ed_GR _ _).trans eR) (by omega) (fun c' s' m' a' hok' hm' hL' hf' => ?_)
  rw [show j + j / 3 + 1 = j + 1 + j / 3 by omega] at hm' hL' ⊢
  refine nm_r (nI_1 j) ⟨by decide, nm_r ed ?_⟩
  have hz : ed_S b (v / 10 ^ (j + 1)) = 0 ↔ D ≤ j + 1 := (ed_Sz hV3).trans (ed_digZ hD (by omega))
  by_cases h : D ≤ j + 1
  · exact br_t (hz.mpr h) (hJ 0 _ _ _ a' (fun _ => rfl) (fun z => absurd z (by omega)) hok' hm' hL' hf')
  · exact br_f (fun z => h (hz.mp z)) (hJ 1 _ _ _ a' (fun z => absurd z h) (fun _ => rfl) hok' hm' hL' hf')
theorem ed_x16 {post : St1 → Prop} {mc ms v D : Nat} {b : Bool} (hV : ed_V b v) (hb : b = true → 0 < v) (hD : ed_dig v D) (hD2 : D ≤ 19) (hmc : 8 ≤ mc) (hms : 138 ≤ ms)
    (hp : ∀ a', sb_Lat (fun i => ed_G (ed_R v D) (D + b.toNat + (D + b.toNat - 1) / 3 - 1 - i)) (D + b.toNat + (D + b.toNat - 1) / 3) a' → sb_Fit a' → post (0, 0, 0, a', D + b.toNat + (D + b.toNat - 1) / 3)) :
    ∀ (d j : Nat) (x6 : Int32) (kc ks m : Nat) (a : Nat → Int32), j + d = D → (D ≤ j → x6 = 0) → (j < D → x6 = 1) → ed_ok 2 20 m kc ks → j + (j - 1) / 3 ≤ m → sb_Lat (ed_G (ed_R v D)) (j + (j - 1) / 3) a → sb_Fit a →
    wX1_grouped_16 post mc ms (ed_S b v) (d + 1) (ed_S b (v / 10 ^ j)) (nI j) x6 kc ks 0 0 (nI (j + (j - 1) / 3)) a m := by
  have hd1 := hD.1
  intro d
  induction d with
  | zero =>
    intro j x6 kc ks m a hj h60 h61 hok hm hL hf
    obtain rfl : j = D := by omega
    rw [h60 (Nat.le_refl _)]
    exact ed_x16e hV hb hd1 hD2 hmc hms hp hok hm hL hf
  | succ d ih =>
    intro j x6 kc ks m a hj h60 h61 hok hm hL hf
    have hjD : j < D := by omega
    have e3 : nI j - nI j / 3 * 3 = nI (j % 3) := pk_rem (d := 3) (by omega) (by decide) (by decide)
    rw [h61 hjD, wX1_grouped_16]
    refine br_f (by decide) (pk_le j 0 (fun h => ?_) (fun h => ⟨by decide, ?_⟩))
    · obtain rfl : j = 0 := by omega
      exact ed_x40 hV hD hD2 hjD hmc hms hok hm hL hf (fun x6' kc' ks' m' a' h1 h2 h3 h4 h5 h6 => ih 1 x6' kc' ks' m' a' (by omega) h1 h2 h3 h4 h5 h6)
    · rw [e3]
      refine pk_eq (j % 3) 0 (fun e => ?_) (fun e => ?_)
      · refine ed_app (c := 44) hok (by omega) hm (by omega) (by omega) hL hf (ed_GC _ h e) (by decide) (fun c' s' m' a' hok' hm' hL' hf' => ?_)
        rw [show j + (j - 1) / 3 + 1 = j + j / 3 by omega] at hm' hL' ⊢
        exact ed_x40 hV hD hD2 hjD hmc hms hok' hm' hL' hf' (fun x6' kc' ks' m' a' h1 h2 h3 h4 h5 h6 => ih (j + 1) x6' kc' ks' m' a' (by omega) h1 h2 h3 h4 h5 h6)
      · rw [show j + (j - 1) / 3 = j + j / 3 by omega] at hm hL ⊢
        exact ed_x40 hV hD hD2 hjD hmc hms hok hm hL hf (fun x6' kc' ks' m' a' h1 h2 h3 h4 h5 h6 => ih (j + 1) x6' kc' ks' m' a' (by omega) h1 h2 h3 h4 h5 h6)
theorem ed_X1 {post : St1 → Prop} {mc ms v D : Nat} {b : Bool} (hV : ed_V b v) (hb : b = true → 0 < v) (hD : ed_dig v D) (hD2 : D ≤ 19) (hmc : 8 ≤ mc) (hms : 138 ≤ ms)
    (hp : ∀ a', sb_Lat (fun i => ed_G (ed_R v D) (D + b.toNat + (D + b.toNat - 1) / 3 - 1 - i)) (D + b.toNat + (D + b.toNat - 1) / 3) a' → sb_Fit a' → post (0, 0, 0, a', D + b.toNat + (D + b.toNat - 1) / 3)) :
    wpX1_grouped post mc ms () (ed_S b v) := by
  have hd1 := hD.1
  refine ⟨by omega, by omega, 1, 16, by omega, by omega, ed_init ⟨D + 1, ?_⟩⟩
  have h9 := ed_x16 (post := post) (mc := mc) (ms := ms) hV hb hD hD2 hmc hms hp D 0 1 (1 + 1) (4 + 16) 16 (fun _ => 0) (by omega) (fun z => absurd z (by omega)) (fun _ => rfl) (Or.inl ⟨rfl, by decide, by decide⟩) (by decide) (fun j hj => absurd hj (Nat.not_lt_zero j)) sb_fit0
  rw [Nat.pow_zero, Nat.div_one] at h9
  exact h9
end
section
/-! the law -/
theorem ed_cell {post : Int32 → Prop} {L : Nat} {xs : Nat → Int32} (k : Nat) (hk : k < 3) (hL : L ≤ 3) (hp : ∀ r, post r) : wpL_cellAt post L xs () (nI k) := by
  refine pk_le L k (fun _ => hp 0) (fun h => ⟨vp_in_nI h (by omega), hp _⟩)
theorem ed_lawOf {post : Int32 → St0 → Prop} (p0 : Int64) (p1 : Int32) (hp : post 1 ()) : wpL_lawOf post 13 222 () p0 p1 := by
  intro x _
  obtain ⟨b, v, e, hV, hb⟩ := ed_of x
  obtain ⟨D, hD2, hD⟩ := ed_digE hV.1
  have hb1 : b.toNat ≤ 1 := by cases b <;> decide
  subst e
  refine ⟨5, 84, by decide, by decide, ed_X0 hV hb hD hD2 (by decide) (by decide) (fun a hL hf => ?_)⟩
  refine ⟨8, 138, by decide, by decide, ed_X1 hV hb hD hD2 (by decide) (by decide) (fun a' hL' hf' => ?_)⟩
  exact sv_equals (by omega) (fun j hj => (hL j hj).2.trans (hL' j hj).2.symm) ⟨by decide, hp⟩
theorem i_vc (xs : Nat → Int32) (L : Nat) (hL : L ≤ 3) : wpL_law (fun r => r = 1) L xs :=
  ed_cell 0 (by decide) hL (fun _ => ed_cell 1 (by decide) hL (fun _ => ed_cell 2 (by decide) hL (fun _ => ⟨13, 222, by decide, by decide, ed_lawOf _ _ rfl⟩)))
end
