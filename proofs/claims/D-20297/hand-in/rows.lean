section
theorem sv_length {post : Int32 → Prop} {h z : Int32} {a : Nat → Int32} {n : Nat} (hp : post (nI n)) : wpJ0_length_8abf5_6a20e post (0, h, z, a, n) :=
  ⟨by decide, Eq.mpr (congrArg post (sb_shr0 (Int32.ofNat n))) hp⟩
theorem sb_copyOf {post : StJefc9b → Prop} {mc ms : Nat} {a : Nat → Int32} {m q : Nat} (h : m < q) (hq : q ≤ 65536) (hf : sb_Fit a) (hmc : 1 ≤ mc) (hms : q ≤ ms)
    (hp : post (a, m, va_cpy a (fun _ => 0) 0 0 m, q)) : wpJ7_copyOf_9075b_9260e post mc ms (a, m) (nI q) := by
  have ei : (if nI q < Int32.ofNat m then nI q else Int32.ofNat m) = nI m := if_neg (nI_nlt (by omega) (by omega))
  have ec : (nI m).toNatClampNeg = m := nI_clamp (by omega)
  refine br_f (fun z => by have := (nI_eq (by omega) (by omega)).mp (show nI q = nI m from z); omega) ⟨nI_pos (by omega), nm_r (nI_clamp (by omega)) ⟨by omega, hmc, by omega, ?_⟩⟩
  rw [ei, ec, sb_cl0]
  exact ⟨by decide, by decide, nI_pos (by omega), by omega, by omega, fun i _ => hf _, nm_e hp⟩
/-- AbstractStringBuilder.ensureCapacityInternal, of Latin-1 bytes -/
theorem sb_ensure {post : StJ4ec0e → Prop} {mc ms : Nat} {ml z : Int32} {a : Nat → Int32} {m q : Nat} (hm : m ≤ 65536) (hq : q < 2 ^ 28) (hf : sb_Fit a) (hr : sb_Room q m mc ms)
    (hp : ∀ a', sb_Fit a' → (∀ j, j < m → a' j = a j) → post (0, ml, z, a', sb_cap q m)) : wpJ5_ensureCapacityInternal_d00df_b0715 post mc ms (0, ml, z, a, m) (nI q) := by
  have e1 : (nI q - Int32.ofNat m).toInt = (q : Int) - m := pk_sub_toInt (by omega) (by omega)
  refine nm_r (sb_shr0 (Int32.ofNat m)) ?_
  by_cases h : q ≤ m
  · refine br_t (by rw [Int32.le_iff_toInt_le, e1, Int32.toInt_zero]; omega) ?_
    have h9 := hp a hf (fun _ _ => rfl)
    rw [sb_cap, if_pos h] at h9
    exact h9
  · have hr' : 1 ≤ mc ∧ sb_cap q m ≤ ms ∧ sb_cap q m ≤ 65536 := hr.resolve_left h
    have hc : sb_cap q m = m + (if q - m < m + 2 then m + 2 else q - m) := by
      unfold sb_cap
      rw [if_neg h]
      split <;> split <;> omega
    have hg := sb_cap_ge q m
    refine br_f (fun hc => h (by rw [Int32.le_iff_toInt_le, e1, Int32.toInt_zero] at hc; omega)) ?_
    have e2 : Int32.ofNat m + ((2 : Int32) <<< ((0 : Int32) &&& 31)) = nI (m + 2) := by
      rw [sb_shl0]
      exact nI_add m 2
    have e3 : Int32.ofNat m + (if nI (q - m) < nI (m + 2) then nI (m + 2) else nI (q - m)) = nI (sb_cap q m) := by
      rw [hc]
      by_cases h2 : q - m < m + 2
      · rw [if_pos h2, if_pos (nI_lt h2 (by omega))]
        exact nI_add m (m + 2)
      · rw [if_neg h2, if_neg (nI_nlt (by omega) (by omega))]
        exact nI_add m (q - m)
    refine nm_e (nm_r (sb_shl0 (nI q)) (nm_r (show nI q - nI m = nI (q - m) from pk_sub (by omega)) ?_))
    rw [e2]
    refine nm_r e3 (br_f (nI_nle (by omega) (by omega)) (br_f (show ¬ nI 2147483639 < nI (sb_cap q m) from nI_nlt (by omega) (by decide)) ?_))
    refine br_f (fun z9 => by have := (nI_eq (by omega) (by decide)).mp (show nI (sb_cap q m) = nI 2147483647 from z9); omega) ?_
    rw [sb_shr0]
    refine ⟨mc, ms, by omega, by omega, ?_⟩
    rw [sb_shl0]
    exact sb_copyOf (by omega) hr'.2.2 hf hr'.1 hr'.2.1 (hp _ (sb_fitC hf sb_fit0) (fun j hj => sb_cpy0 hj))
/-- StringBuilder.append(char), a Latin-1 letter c -/
theorem sb_appendChar {post : StJ4ec0e → Prop} {mc ms : Nat} {ml : Int32} {t : Nat → Nat} {a : Nat → Int32} {n m c : Nat} (hnm : n ≤ m) (hm : m ≤ 65536) (hL : sb_Lat t n a) (hf : sb_Fit a) (hc : c < 256) (hr : sb_Room (n + 1) m mc ms)
    (hp : ∀ a', sb_Lat (sb_cat t n (fun _ => c)) (n + 1) a' → sb_Fit a' → post (0, ml, nI (n + 1), a', sb_cap (n + 1) m)) : wpJ4_append_cf468_b0715 post mc ms (0, ml, nI n, a, m) (nI c) := by
  have hg := sb_cap_ge (n + 1) m
  have hl := sb_cap_le hm hr
  refine ⟨mc, ms, by omega, by omega, mc, ms, by omega, by omega, ?_⟩
  rw [nI_1]
  refine sb_ensure hm (by omega) hf hr (fun a' hf' hk => ?_)
  refine br_t rfl (br_f (by decide) ?_)
  refine br_f (show ¬ nI 255 < nI c from nI_nlt (by omega) (by decide)) (br_f (by decide) ?_)
  refine nm_r (nI_1 n) ⟨vp_in_nI (by omega) (by omega), nm_r (e' := upd a' n (sb_b c)) (by rw [nI_clamp (by omega), pk_vb]; rfl) ?_⟩
  refine hp _ (sb_latPut hL (fun j hj => ?_) (fun i hi => ?_)) (sb_fitU hf' (sb_fitB c))
  · rw [pk_un (by omega)]
    exact hk j (by omega)
  · obtain rfl : i = 0 := by omega
    exact ⟨hc, pk_us⟩
theorem sb_copyRange {post : StJefc9b → Prop} {mc ms : Nat} {a : Nat → Int32} {n m : Nat} (hnm : n ≤ m) (hm : m ≤ 65536) (hf : sb_Fit a) (hmc : 1 ≤ mc) (hms : n ≤ ms)
    (hp : ∀ a', sb_Fit a' → (∀ j, j < n → a' j = a j) → post (a, m, a', n)) : wpJ7_copyOfRange_39247_f5dda post mc ms (a, m) 0 (nI n) := by
  refine br_t rfl (pk_eq n m (fun e => ?_) (fun e => ?_))
  · subst e
    exact ⟨fun i _ => hf i, hmc, by omega, hp a hf (fun _ _ => rfl)⟩
  · have ei : (if nI n < (Int32.ofNat m - 0) then nI n else (Int32.ofNat m - 0)) = nI n := by
      rw [show Int32.ofNat m - 0 = nI m from pk_sub (a := m) (b := 0) (by omega)]
      exact if_pos (nI_lt (by omega) (by omega))
    refine ⟨mc, ms, by omega, by omega, br_t (nI_pos' (by omega)) (nm_r (e' := nI n) (pk_sub (a := n) (b := 0) (by omega)) ⟨nI_pos (by omega), nm_r (nI_clamp (by omega)) ⟨by omega, hmc, by omega, ?_⟩⟩)⟩
    rw [ei, nI_clamp (n := n) (by omega), sb_cl0]
    exact ⟨by decide, by decide, nI_pos (by omega), by omega, by omega, fun i _ => hf _, nm_e (hp _ (sb_fitC hf sb_fit0) (fun j hj => sb_cpy0 hj))⟩
/-- StringBuilder.toString -/
theorem sb_toString {post : StJ9c5ae → Prop} {mc ms : Nat} {ml : Int32} {t : Nat → Nat} {a : Nat → Int32} {n m : Nat} (hnm : n ≤ m) (hm : m ≤ 65536) (hL : sb_Lat t n a) (hf : sb_Fit a) (hmc : 2 ≤ mc) (hms : n + 4 ≤ ms)
    (hp : ∀ a', sb_Lat t n a' → sb_Fit a' → post (0, ml, nI n, a, m, 0, 0, 0, a', n)) : wpJ4_toString_0e30d_76c3d post mc ms (0, ml, nI n, a, m) := by
  refine ⟨by omega, by omega, mc - 1, ms - 4, by omega, by omega, mc - 1, ms - 4, by omega, by omega, br_t rfl (br_f (by decide) ⟨mc - 1, ms - 4, by omega, by omega, ?_⟩)⟩
  exact sb_copyRange hnm hm hf (by omega) (by omega) (fun a' hf' hk => hp a' (sb_latKeep hL hk) hf')
theorem sv_check {post : Unit → Prop} {i n : Nat} (hi : i < n) (hn : n < 2 ^ 31) (hp : post ()) : wpJ0_checkIndex_df160_48e5c post () (nI i) (nI n) :=
  ⟨br_f (nI_pos (by omega)) (br_t (nI_lt hi hn) hp), br_f (nI_pos (by omega)) (br_t (nI_lt hi hn) hp)⟩
/-- String.charAt of a Latin-1 text -/
theorem sv_charAt {post : Int32 → Prop} {h z : Int32} {t : Nat → Nat} {a : Nat → Int32} {n i : Nat} (hn : n ≤ 65536) (hL : sb_Lat t n a) (hi : i < n) (hp : post (nI (t i))) : wpJ0_charAt_5068e_f8cf6 post (0, h, z, a, n) (nI i) := by
  obtain ⟨h1, h2⟩ := hL i hi
  obtain ⟨b1, b2, -⟩ := sb_byte _ h1
  have hc := (pk_charN (q := t i) (by omega)).1
  refine br_t rfl (br_f (by decide) ?_)
  rw [wpJ1_charAt_3b067_49ada]
  refine sv_check hi (by omega) ⟨vp_in_nI hi (by omega), ?_⟩
  rw [nI_clamp (by omega), h2, b1, b2]
  exact ⟨hc, hc, hp⟩
theorem sv_compress {P : Int32 → StJbedf7 → Prop} {t : Nat → Nat} {b : Nat → Int32} {n : Nat} (hn : n ≤ 65536) (ht : ∀ j, j < n → t j < 256 ∧ b j = nI (t j)) (hP : ∀ a', sb_Lat t n a' → sb_Fit a' → P (nI n) (b, n, a', n)) :
    ∀ (d k : Nat) (a : Nat → Int32), k + d = n → sb_Lat t k a → sb_Fit a → wJ2_compress_fe38e_1fd7f_3 P (nI n) n n (d + 1) (nI k) (nI k) (nI k) b a := by
  intro d
  induction d with
  | zero =>
    intro k a hk hL hf
    rw [wJ2_compress_fe38e_1fd7f_3]
    refine br_t ((nI_leI (by omega) (by omega)).mpr (by omega)) (hP a ?_ hf)
    rw [← show k = n by omega]
    exact hL
  | succ d ih =>
    intro k a hk hL hf
    obtain ⟨b1, b2⟩ := ht k (by omega)
    obtain ⟨-, -, b3⟩ := sb_byte _ b1
    rw [wJ2_compress_fe38e_1fd7f_3]
    refine br_f (nI_ge (by omega) (by omega)) ⟨vp_in_nI (by omega) (by omega), nm_r (e' := nI (t k)) (by rw [nI_clamp (by omega), b2]) (br_t b3 ⟨vp_in_nI (by omega) (by omega), ?_⟩)⟩
    refine nm_r (e' := upd a k (sb_b (t k))) (by rw [nI_clamp (by omega), pk_vb]; rfl) (nm_r (nI_1 k) (nm_r (nI_1 k) (nm_r (nI_1 k) ?_)))
    refine ih (k + 1) _ (by omega) (fun j hj => ?_) (sb_fitU hf (sb_fitB _))
    by_cases e : j = k
    · subst e
      exact ⟨b1, pk_us⟩
    · rw [pk_un e]
      exact hL j (by omega)
/-- new String(char[]) of n Latin-1 letters, n not 0 -/
theorem sv_new {post : (StJ0f59a ⊕ StJc801d) → Prop} {mc ms : Nat} {c h z : Int32} {t : Nat → Nat} {b : Nat → Int32} {n : Nat} (h0 : 0 < n) (hn : n ≤ 65536) (ht : ∀ j, j < n → t j < 256 ∧ b j = nI (t j)) (hmc : 1 ≤ mc) (hms : n ≤ ms)
    (hp : ∀ a', sb_Lat t n a' → sb_Fit a' → post (.inl (0, h, z, a', n, b, n))) : wpJ0_init_905df_fc072 post mc ms (c, h, z, b, n) := by
  refine ⟨mc, ms, by omega, by omega, br_f (nI_ne0 h0 (by omega)) ⟨mc, ms, by omega, by omega, nI_pos (by omega), nm_r (nI_clamp (by omega)) ⟨by omega, hmc, by omega, n + 1, ?_⟩⟩⟩
  refine sv_compress hn ht (fun a' hL hf => ?_) n 0 _ (by omega) (fun j hj => absurd hj (Nat.not_lt_zero j)) sb_fit0
  refine br_t rfl ⟨pk_nb _, ?_⟩
  have e1 : (((Int32.ofNat n - Int32.ofNat n).toUInt32 >>> ((31 : Int32).toUInt32 &&& Int32.toUInt32 31)).toInt32).toInt8.toInt32 = 0 := by
    rw [Int32.sub_self]
    decide
  rw [e1]
  exact ⟨by decide, by decide, hp a' hL hf⟩
/-- String.equals of two Strings with the same bytes -/
theorem sv_equals {post : Int32 → Prop} {h z h' z' : Int32} {a a' : Nat → Int32} {n : Nat} (hn : n ≤ 65536) (he : ∀ j, j < n → a j = a' j) (hp : post 1) : wpJ0_equals_9ea2d_d3b40 post (0, h, z, a, n, 0, h', z', a', n) := by
  have L : ∀ (P : Int32 → Prop), P 1 → ∀ (d k : Nat), k + d = n → wJ1_equals_b5fdf_9f0d2_9 P a n a' n (d + 1) (nI k) := by
    intro P h1 d
    induction d with
    | zero =>
      intro k hk
      rw [wJ1_equals_b5fdf_9f0d2_9]
      exact br_t ((nI_leI (by omega) (by omega)).mpr (by omega)) h1
    | succ d ih =>
      intro k hk
      rw [wJ1_equals_b5fdf_9f0d2_9]
      refine br_f (nI_ge (by omega) (by omega)) ⟨vp_in_nI (by omega) (by omega), vp_in_nI (by omega) (by omega), br_t ?_ (nm_r (nI_1 k) (ih (k + 1) (by omega)))⟩
      rw [nI_clamp (by omega)]
      exact he k (by omega)
  exact br_t rfl (br_t rfl ⟨n + 1, L _ (br_f (by decide) hp) n 0 (by omega)⟩)
/-- Integer.stringSize of a natural -/
theorem sb_stringSize {post : Int32 → Prop} {v : Nat} (hv : v < 2 ^ 31) (hp : post (nI (sb_dg v))) : wpJ6_stringSize_0f7a4_565d2 post () (nI v) := by
  have hs : ∀ i, sb_dg v = i → post (nI i) := fun i e => e ▸ hp
  refine br_f (nI_pos hv) (nm_e ⟨11, ?_⟩)
  rw [wJ6_stringSize_0f7a4_565d2_16]
  refine br_f (by decide) (sb_cmp v 10 (fun h1 => ?_) (fun h => sb_at (P := post) (by decide) (hs 1 (by unfold sb_dg; (repeat' split) <;> omega))) hv)
  refine nm_r (e' := -100) (by decide) (nm_r (e' := 2) (by decide) ?_)
  rw [wJ6_stringSize_0f7a4_565d2_16]
  refine br_f (by decide) (sb_cmp v 100 (fun h2 => ?_) (fun h => sb_at (P := post) (by decide) (hs 2 (by unfold sb_dg; (repeat' split) <;> omega))) hv)
  refine nm_r (e' := -1000) (by decide) (nm_r (e' := 3) (by decide) ?_)
  rw [wJ6_stringSize_0f7a4_565d2_16]
  refine br_f (by decide) (sb_cmp v 1000 (fun h3 => ?_) (fun h => sb_at (P := post) (by decide) (hs 3 (by unfold sb_dg; (repeat' split) <;> omega))) hv)
  refine nm_r (e' := -10000) (by decide) (nm_r (e' := 4) (by decide) ?_)
  rw [wJ6_stringSize_0f7a4_565d2_16]
  refine br_f (by decide) (sb_cmp v 10000 (fun h4 => ?_) (fun h => sb_at (P := post) (by decide) (hs 4 (by unfold sb_dg; (repeat' split) <;> omega))) hv)
  refine nm_r (e' := -100000) (by decide) (nm_r (e' := 5) (by decide) ?_)
  rw [wJ6_stringSize_0f7a4_565d2_16]
  refine br_f (by decide) (sb_cmp v 100000 (fun h5 => ?_) (fun h => sb_at (P := post) (by decide) (hs 5 (by unfold sb_dg; (repeat' split) <;> omega))) hv)
  refine nm_r (e' := -1000000) (by decide) (nm_r (e' := 6) (by decide) ?_)
  rw [wJ6_stringSize_0f7a4_565d2_16]
  refine br_f (by decide) (sb_cmp v 1000000 (fun h6 => ?_) (fun h => sb_at (P := post) (by decide) (hs 6 (by unfold sb_dg; (repeat' split) <;> omega))) hv)
  refine nm_r (e' := -10000000) (by decide) (nm_r (e' := 7) (by decide) ?_)
  rw [wJ6_stringSize_0f7a4_565d2_16]
  refine br_f (by decide) (sb_cmp v 10000000 (fun h7 => ?_) (fun h => sb_at (P := post) (by decide) (hs 7 (by unfold sb_dg; (repeat' split) <;> omega))) hv)
  refine nm_r (e' := -100000000) (by decide) (nm_r (e' := 8) (by decide) ?_)
  rw [wJ6_stringSize_0f7a4_565d2_16]
  refine br_f (by decide) (sb_cmp v 100000000 (fun h8 => ?_) (fun h => sb_at (P := post) (by decide) (hs 8 (by unfold sb_dg; (repeat' split) <;> omega))) hv)
  refine nm_r (e' := -1000000000) (by decide) (nm_r (e' := 9) (by decide) ?_)
  rw [wJ6_stringSize_0f7a4_565d2_16]
  refine br_f (by decide) (sb_cmp v 1000000000 (fun h9 => ?_) (fun h => sb_at (P := post) (by decide) (hs 9 (by unfold sb_dg; (repeat' split) <;> omega))) hv)
  refine nm_e (nm_r (e' := 10) (by decide) ?_)
  rw [wJ6_stringSize_0f7a4_565d2_16]
  exact br_t (by decide) (sb_at (P := post) (by decide) (hs 10 (by unfold sb_dg; (repeat' split) <;> omega)))
/-- Integer.DigitOnes, Integer.DigitTens -/
theorem sb_tab : ∀ k, k < 100 → vp_nar .byte (tabJ4c4d6.getD k 0) = sb_b (48 + k % 10) ∧ vp_nar .byte (tabJe9b5b.getD k 0) = sb_b (48 + k / 10) := by decide +kernel
/-- Integer.getChars of a natural, backwards from p -/
theorem sb_getChars {P : Int32 → StJf0261 → Prop} {m n : Nat} (hm : m ≤ 65536) : ∀ (f w p : Nat) (a : Nat → Int32), w < f → w < 2 ^ 31 → p = n + sb_dg w → p ≤ m →
    (∀ a', (∀ j, j < n ∨ p ≤ j → a' j = a j) → (∀ i, i < sb_dg w → a' (p - 1 - i) = sb_b (48 + w / 10 ^ i % 10)) → (sb_Fit a → sb_Fit a') → P (nI n) (a', m)) →
    wJ6_getChars_ba4f3_543e4_22 P 0 m f (-nI w) (nI p) a := by
  intro f
  induction f with
  | zero =>
    intro w p a h
    omega
  | succ f ih =>
    intro w p a hwf hw hp hpm hP
    have hd1 := (sb_dg_in w).1
    have e1 : -(-nI w) = nI w := Int32.neg_neg
    have ew : (nI w).toNatClampNeg = w := nI_clamp hw
    rw [wJ6_getChars_ba4f3_543e4_22]
    by_cases h100 : w < 100
    · obtain ⟨t1, t2⟩ := sb_tab w h100
      refine br_t (show -nI 100 < -nI w from (sb_nlt (by decide) hw).mpr h100) (nm_r (sb_m1 (by omega)) ⟨by rw [e1]; exact vp_in_nI h100 (by decide), vp_in_nI (by omega) (by omega), ?_⟩)
      refine nm_r (e' := upd a (p - 1) (sb_b (48 + w % 10))) (by rw [e1, ew, nI_clamp (by omega), t1]) ?_
      by_cases h9 : w < 10
      · have hd : sb_dg w = 1 := if_pos h9
        refine br_t (show -nI 9 ≤ -nI w from (sb_nle (by decide) hw).mpr (by omega)) (br_t rfl ?_)
        rw [show nI (p - 1) = nI n from congrArg nI (by omega)]
        refine hP _ (fun j hj => pk_un (by omega)) (fun i hi => ?_) (fun hf => sb_fitU hf (sb_fitB _))
        obtain rfl : i = 0 := by omega
        rw [Nat.sub_zero, pk_us, Nat.pow_zero, Nat.div_one]
      · have hd : sb_dg w = 2 := by rw [sb_dg, if_neg h9, if_pos h100]
        have d2 : w / 10 % 10 = w / 10 := by omega
        refine br_f (fun z => by have := (sb_nle (by decide) hw).mp (show -nI 9 ≤ -nI w from z); omega) (nm_r (sb_m1 (by omega)) ⟨by rw [e1]; exact vp_in_nI h100 (by decide), vp_in_nI (by omega) (by omega), ?_⟩)
        refine nm_r (e' := upd (upd a (p - 1) (sb_b (48 + w % 10))) (p - 1 - 1) (sb_b (48 + w / 10))) (by rw [e1, ew, nI_clamp (by omega), t2]) (br_t rfl ?_)
        rw [show nI (p - 1 - 1) = nI n from congrArg nI (by omega)]
        refine hP _ (fun j hj => by rw [pk_un (by omega), pk_un (by omega)]) (fun i hi => ?_) (fun hf => sb_fitU (sb_fitU hf (sb_fitB _)) (sb_fitB _))
        obtain rfl | rfl : i = 0 ∨ i = 1 := by omega
        · rw [Nat.sub_zero, pk_un (by omega), pk_us, Nat.pow_zero, Nat.div_one]
        · rw [pk_us, Nat.pow_one, d2]
    · obtain ⟨t1, t2⟩ := sb_tab (w % 100) (Nat.mod_lt _ (by decide))
      have hd := sb_dg100 (w := w) (by omega) hw
      have hd2 := (sb_dg_in (w / 100)).1
      have er : (nI (w % 100)).toNatClampNeg = w % 100 := nI_clamp (by omega)
      rw [show w % 100 % 10 = w % 10 by omega] at t1
      rw [show w % 100 / 10 = w / 10 % 10 by omega] at t2
      refine br_f (fun z => h100 ((sb_nlt (by decide) hw).mp (show -nI 100 < -nI w from z))) ⟨by decide, nm_r (sb_ndiv hw) (nm_r (sb_nrem hw) (nm_r (sb_m1 (by omega)) ⟨vp_in_nI (by omega) (by decide), vp_in_nI (by omega) (by omega), ?_⟩))⟩
      refine nm_r (e' := upd a (p - 1) (sb_b (48 + w % 10))) (by rw [er, nI_clamp (by omega), t1]) (nm_r (sb_m1 (by omega)) ⟨vp_in_nI (by omega) (by decide), vp_in_nI (by omega) (by omega), ?_⟩)
      refine nm_r (e' := upd (upd a (p - 1) (sb_b (48 + w % 10))) (p - 1 - 1) (sb_b (48 + w / 10 % 10))) (by rw [er, nI_clamp (by omega), t2]) ?_
      refine ih (w / 100) (p - 1 - 1) _ (by omega) (by omega) (by omega) (by omega) (fun a' h1 h2 h3 => ?_)
      refine hP a' (fun j hj => by rw [h1 j (by omega), pk_un (by omega), pk_un (by omega)]) (fun i hi => ?_) (fun hf => h3 (sb_fitU (sb_fitU hf (sb_fitB _)) (sb_fitB _)))
      match i, hi with
      | 0, _ => rw [Nat.sub_zero, h1 _ (by omega), pk_un (by omega), pk_us, Nat.pow_zero, Nat.div_one]
      | 1, _ => rw [h1 _ (by omega), pk_us, Nat.pow_one]
      | k + 2, hi =>
        rw [show p - 1 - (k + 2) = p - 1 - 1 - 1 - k by omega, h2 k (by omega), Nat.div_div_eq_div_mul, show 100 * 10 ^ k = 10 ^ (k + 2) by rw [show k + 2 = k + 1 + 1 from rfl, Nat.pow_succ, Nat.pow_succ]; omega]
/-- StringBuilder.append(int), a natural v -/
theorem sb_appendInt {post : StJ4ec0e → Prop} {mc ms : Nat} {ml : Int32} {t : Nat → Nat} {a : Nat → Int32} {n m v : Nat} (hnm : n ≤ m) (hm : m ≤ 65536) (hL : sb_Lat t n a) (hf : sb_Fit a) (hv : v < 2 ^ 31) (hr : sb_Room (n + sb_dg v) m mc ms)
    (hp : ∀ a', sb_Lat (sb_cat t n (sb_dec v)) (n + sb_dg v) a' → sb_Fit a' → post (0, ml, nI (n + sb_dg v), a', sb_cap (n + sb_dg v) m)) : wpJ4_append_bf812_b0715 post mc ms (0, ml, nI n, a, m) (nI v) := by
  have hd := sb_dg_in v
  have hg := sb_cap_ge (n + sb_dg v) m
  have hl := sb_cap_le hm hr
  refine ⟨mc, ms, by omega, by omega, ?_⟩
  refine sb_stringSize hv (nm_r (nI_add n (sb_dg v)) ⟨mc, ms, by omega, by omega, ?_⟩)
  refine sb_ensure hm (by omega) hf hr (fun a' hf' hk => ?_)
  refine br_t rfl (br_f (by decide) (br_t (nI_pos' hv) (br_t rfl (nm_e ⟨v + 1, ?_⟩))))
  refine sb_getChars (n := n) hl (v + 1) v _ a' (by omega) hv rfl hg (fun a2 h1 h2 h3 => ?_)
  refine hp a2 (sb_latPut hL (fun j hj => ?_) (fun i hi => ?_)) (h3 hf')
  · rw [h1 j (Or.inl hj)]
    exact hk j (by omega)
  · have h9 := h2 (sb_dg v - 1 - i) (by omega)
    rw [show n + sb_dg v - 1 - (sb_dg v - 1 - i) = n + i by omega] at h9
    exact ⟨by unfold sb_dec; omega, h9⟩
end
section
/-! ===== the picture: what both methods write for the letters t 0 .. t (n - 1) ===== -/
/-- how many letters x in a row end just ahead of place m -/
def rn_left (t : Nat → Nat) (x : Nat) : Nat → Nat
  | 0 => 0
  | m + 1 => if t m = x then rn_left t x m + 1 else 0
/-- behind the text s.1 of s.2 letters: a run of l letters x -/
def rn_emit (s : (Nat → Nat) × Nat) (l x : Nat) : (Nat → Nat) × Nat :=
  if l ≤ 1 then (sb_cat s.1 s.2 (fun _ => x), s.2 + 1) else (sb_cat (sb_cat s.1 s.2 (fun _ => 48 + l)) (s.2 + 1) (fun _ => x), s.2 + 1 + 1)
/-- what is written when the runs that end ahead of place p are done -/
def rn_out (t : Nat → Nat) (n : Nat) : Nat → (Nat → Nat) × Nat
  | 0 => (fun _ => 0, 0)
  | p + 1 => if p + 1 = n ∨ ¬ t (p + 1) = t p then rn_emit (rn_out t n p) (rn_left t (t p) (p + 1)) (t p) else rn_out t n p
theorem rn_left_le (t : Nat → Nat) (x : Nat) : ∀ m, rn_left t x m ≤ m := by
  intro m
  induction m with
  | zero => exact Nat.le_refl 0
  | succ m ih =>
    rw [rn_left]
    split <;> omega
theorem rn_left_pos (t : Nat → Nat) (p : Nat) : 1 ≤ rn_left t (t p) (p + 1) := by
  rw [rn_left, if_pos rfl]
  omega
theorem rn_emit_1 {s : (Nat → Nat) × Nat} {l x : Nat} (h : l ≤ 1) : rn_emit s l x = (sb_cat s.1 s.2 (fun _ => x), s.2 + 1) := if_pos h
theorem rn_emit_2 {s : (Nat → Nat) × Nat} {l x : Nat} (h : 1 < l) : rn_emit s l x = (sb_cat (sb_cat s.1 s.2 (fun _ => 48 + l)) (s.2 + 1) (fun _ => x), s.2 + 1 + 1) := if_neg (by omega)
theorem rn_emit_le (s : (Nat → Nat) × Nat) (l x : Nat) : (rn_emit s l x).2 ≤ s.2 + 2 := by
  rcases Nat.lt_or_ge 1 l with h | h
  · rw [rn_emit_2 h]
    exact Nat.le_refl _
  · rw [rn_emit_1 h]
    exact Nat.le_succ _
theorem rn_out_t {t : Nat → Nat} {n p : Nat} (h : p + 1 = n ∨ ¬ t (p + 1) = t p) : rn_out t n (p + 1) = rn_emit (rn_out t n p) (rn_left t (t p) (p + 1)) (t p) := if_pos h
theorem rn_out_f {t : Nat → Nat} {n p : Nat} (h : ¬ (p + 1 = n ∨ ¬ t (p + 1) = t p)) : rn_out t n (p + 1) = rn_out t n p := if_neg h
theorem rn_out_le (t : Nat → Nat) (n : Nat) : ∀ p, (rn_out t n p).2 ≤ 2 * p := by
  intro p
  induction p with
  | zero => exact Nat.le_refl 0
  | succ p ih =>
    by_cases h : p + 1 = n ∨ ¬ t (p + 1) = t p
    · rw [rn_out_t h]
      have := rn_emit_le (rn_out t n p) (rn_left t (t p) (p + 1)) (t p)
      omega
    · rw [rn_out_f h]
      omega
/-- inside a run that begins at i -/
theorem rn_in {t : Nat → Nat} {n i j : Nat} (hs : ∀ k, k + 1 = i → ¬ t k = t i) (hj : j ≤ n) (he : ∀ k, i ≤ k → k < j → t k = t i) :
    ∀ m, i + m < j → rn_left t (t i) (i + m + 1) = m + 1 ∧ rn_out t n (i + m) = rn_out t n i := by
  intro m
  induction m with
  | zero =>
    intro hm
    refine ⟨?_, rfl⟩
    rw [Nat.add_zero, rn_left, if_pos rfl]
    cases i with
    | zero => rfl
    | succ k => rw [rn_left, if_neg (hs k rfl)]
  | succ m ih =>
    intro hm
    obtain ⟨h1, h2⟩ := ih (by omega)
    have e1 : t (i + m + 1) = t i := he (i + m + 1) (by omega) (by omega)
    have e2 : t (i + m) = t i := he (i + m) (by omega) (by omega)
    refine ⟨?_, ?_⟩
    · show rn_left t (t i) (i + m + 1 + 1) = m + 1 + 1
      rw [rn_left, if_pos e1, h1]
    · show rn_out t n (i + m + 1) = rn_out t n i
      rw [rn_out_f ?_, h2]
      rintro (z | z)
      · omega
      · exact z (e1.trans e2.symm)
/-- a whole run i .. j - 1 -/
theorem rn_run {t : Nat → Nat} {n i j : Nat} (hs : ∀ k, k + 1 = i → ¬ t k = t i) (hij : i < j) (hj : j ≤ n) (he : ∀ k, i ≤ k → k < j → t k = t i) (hx : j = n ∨ ¬ t j = t i) :
    rn_out t n j = rn_emit (rn_out t n i) (j - i) (t i) := by
  obtain ⟨m, rfl⟩ : ∃ m, j = i + m + 1 := ⟨j - i - 1, by omega⟩
  obtain ⟨h1, h2⟩ := rn_in hs hj he m (by omega)
  have e2 : t (i + m) = t i := he (i + m) (by omega) (by omega)
  rw [rn_out_t (by rw [e2]; exact hx), h2, e2, h1, show i + m + 1 - i = m + 1 by omega]
/-! ===== letters: small rows ===== -/
theorem rn_congr {T T' : Nat → Nat} {n : Nat} {a : Nat → Int32} (h : sb_Lat T n a) (e : ∀ j, j < n → T' j = T j) : sb_Lat T' n a := fun j hj => by
  rw [e j hj]
  exact h j hj
theorem rn_vc {q : Nat} (h : q < 65536) : vp_nar .char (nI q) = nI q := by
  unfold vp_nar
  rw [(pk_charN h).1]
theorem rn_and255 (x : Int64) : ∃ m, m < 256 ∧ x &&& 255 = lN m := ⟨x.toBitVec.toNat % 2 ^ 8, Nat.mod_lt _ (by decide), Int64.toBitVec_inj.mp (BitVec.eq_of_toNat_eq (by
  show (x.toBitVec &&& 255#64).toNat = (BitVec.ofNat 64 (x.toBitVec.toNat % 2 ^ 8)).toNat
  rw [BitVec.toNat_and, show (255#64).toNat = 2 ^ 8 - 1 from by decide, Nat.and_two_pow_sub_one_eq_mod, BitVec.toNat_ofNat]
  omega))⟩
theorem rn_ch (x : Int64) : ∃ c, c < 256 ∧ ((x &&& 255).toInt32.toUInt32 % 65536).toInt32 = nI c := by
  obtain ⟨c, hc, e⟩ := rn_and255 x
  refine ⟨c, hc, ?_⟩
  rw [e, lN_i]
  exact (sb_byte c hc).2.1
theorem rn_dig {w : Nat} (hw : w < 10) : ((48 + (nI w - nI w / 10 * 10)).toUInt32 % 65536).toInt32 = nI (48 + w) := by
  show ((nI 48 + (nI w - nI w / nI 10 * nI 10)).toUInt32 % 65536).toInt32 = nI (48 + w)
  rw [pk_rem (by omega) (by decide) (by decide), nI_add, Nat.mod_eq_of_lt hw]
  exact (sb_byte _ (by omega)).2.1
/-! ===== the builder with 16 places: it never grows ===== -/
theorem rn_ac {post : StJ4ec0e → Prop} {ml : Int32} {T : Nat → Nat} {a : Nat → Int32} {c x : Nat} (hc : c + 1 ≤ 16) (hL : sb_Lat T c a) (hf : sb_Fit a) (hx : x < 256)
    (hp : ∀ a', sb_Lat (sb_cat T c (fun _ => x)) (c + 1) a' → sb_Fit a' → post (0, ml, nI (c + 1), a', 16)) : wpJ4_append_cf468_b0715 post 0 0 (0, ml, nI c, a, 16) (nI x) :=
  sb_appendChar (by omega) (by decide) hL hf hx (Or.inl hc) (fun a' h1 h2 => by rw [sb_cap, if_pos hc]; exact hp a' h1 h2)
theorem rn_ai {post : StJ4ec0e → Prop} {ml : Int32} {T : Nat → Nat} {a : Nat → Int32} {c v : Nat} (hc : c + 1 ≤ 16) (hL : sb_Lat T c a) (hf : sb_Fit a) (hv : v < 10)
    (hp : ∀ a', sb_Lat (sb_cat T c (fun _ => 48 + v)) (c + 1) a' → sb_Fit a' → post (0, ml, nI (c + 1), a', 16)) : wpJ4_append_bf812_b0715 post 0 0 (0, ml, nI c, a, 16) (nI v) := by
  have hd : sb_dg v = 1 := if_pos hv
  refine sb_appendInt (by omega) (by decide) hL hf (by omega) (Or.inl (by omega)) (fun a' h1 h2 => ?_)
  rw [hd] at h1 ⊢
  rw [sb_cap, if_pos hc]
  refine hp a' (rn_congr h1 (fun j hj => ?_)) h2
  by_cases e : j < c
  · rw [sb_cat_lo e, sb_cat_lo e]
  · rw [show j = c + 0 by omega, sb_cat_hi, sb_cat_hi, sb_dec, hd, Nat.sub_self, Nat.pow_zero, Nat.div_one, Nat.mod_eq_of_lt hv]
/-- new StringBuilder() -/
theorem rn_sb {post : StJ4ec0e → Prop} (hp : post (0, 0, 0, fun _ => 0, 16)) : wpJ4_init_da8c8_e1428 post 1 16 (0, 0, 0) :=
  ⟨1, 16, by decide, by decide, by decide, nm_r (e' := 16) (by decide) ⟨by decide, by decide, by decide, hp⟩⟩
end
section
/-! ===== the class: runs forwards ===== -/
section first
variable {post : St2 → Prop} {mc ms kc ks n i c : Nat} {J : Int32 → Nat → Nat → Int32 → Int32 → Int32 → (Nat → Int32) → Nat → Int32 → Int32 → Int32 → (Nat → Int32) → Nat → Prop} {h z ml : Int32} {t T : Nat → Nat} {a b : Nat → Int32}
theorem rx_62 {x3 : Int32} (hn : n ≤ 8) (hi : i < n) (hc : c + 1 ≤ 16) (hkc : kc ≤ mc) (hks : ks ≤ ms) (hT : sb_Lat t n b) (hL : sb_Lat T c a) (hf : sb_Fit a)
    (hJ : ∀ a', sb_Lat (sb_cat T c (fun _ => t i)) (c + 1) a' → sb_Fit a' → J x3 kc ks 0 h z b n 0 ml (nI (c + 1)) a' 16) : wX1_runs_62 post mc ms J (nI i) x3 kc ks 0 h z b n 0 ml (nI c) a 16 := by
  unfold wX1_runs_62
  exact sv_charAt (by omega) hT hi ⟨0, 0, hkc, hks, rn_ac hc hL hf (hT i hi).1 hJ⟩
theorem rx_47 {j : Nat} (hn : n ≤ 8) (hij : i < j) (hj : j ≤ n) (hc : c + 2 ≤ 16) (hkc : kc ≤ mc) (hks : ks ≤ ms) (hT : sb_Lat t n b) (hL : sb_Lat T c a) (hf : sb_Fit a)
    (hJ : ∀ a', sb_Lat (rn_emit (T, c) (j - i) (t i)).1 (rn_emit (T, c) (j - i) (t i)).2 a' → sb_Fit a' → J (nI j) kc ks 0 h z b n 0 ml (nI (rn_emit (T, c) (j - i) (t i)).2) a' 16) :
    wX1_runs_47 post mc ms J (nI i) (nI j) kc ks 0 h z b n 0 ml (nI c) a 16 := by
  unfold wX1_runs_47
  rw [pk_sub (by omega)]
  refine pk_le (j - i) 1 (fun hl => ?_) (fun hl => ?_)
  · rw [rn_emit_1 hl] at hJ
    exact rx_62 hn (by omega) (by omega) hkc hks hT hL hf hJ
  · rw [rn_emit_2 hl] at hJ
    exact ⟨0, 0, hkc, hks, rn_ai (by omega) hL hf (by omega) (fun a' h1 h2 => rx_62 hn (by omega) (by omega) hkc hks hT h1 h2 hJ)⟩
theorem rx_20 {co : Int32} (hn : n ≤ 8) (hi : i < n) (hT : sb_Lat t n b)
    (H : ∀ j, i < j → j ≤ n → (∀ k, i ≤ k → k < j → t k = t i) → (j = n ∨ ¬ t j = t i) → wX1_runs_47 post mc ms J (nI i) (nI j) kc ks 0 h z b n 0 ml co a 16) :
    ∀ d j, j + d = n → i ≤ j → (∀ k, i ≤ k → k < j → t k = t i) → wX1_runs_20 post mc ms J (nI i) kc ks 0 h z b n 0 ml co a 16 (d + 1) (nI j) := by
  intro d
  induction d with
  | zero =>
    intro j hj hij he
    rw [wX1_runs_20]
    exact sv_length (br_t (nI_le (by omega) (by omega)) (H j (by omega) (by omega) he (Or.inl (by omega))))
  | succ d ih =>
    intro j hj hij he
    rw [wX1_runs_20]
    have b1 := (hT j (by omega)).1
    have b2 := (hT i hi).1
    refine sv_length (br_f (nI_ge (by omega) (by omega)) (sv_charAt (by omega) hT (by omega) (sv_charAt (by omega) hT hi (ek_if (nI_eq (by omega) (by omega)) (fun e => ?_) (fun e => ?_)))))
    · refine nm_r (nI_1 j) (ih (j + 1) (by omega) (by omega) (fun k h1 h2 => ?_))
      by_cases q : k = j
      · rw [q]
        exact e
      · exact he k h1 (by omega)
    · have q : j ≠ i := fun q => e (by rw [q])
      exact H j (by omega) (by omega) he (Or.inr e)
end first
theorem rx_10 {post : St2 → Prop} {mc ms kc ks n : Nat} {h z ml : Int32} {t : Nat → Nat} {b : Nat → Int32} (hn : n ≤ 8) (hkc : kc + 2 ≤ mc) (hks : ks + 20 ≤ ms) (hT : sb_Lat t n b)
    (hp : ∀ a', sb_Lat (rn_out t n n).1 (rn_out t n n).2 a' → post (0, h, z, b, n, 0, 0, 0, a', (rn_out t n n).2)) :
    ∀ (f i : Nat) (a : Nat → Int32), n - i < f → i ≤ n → (∀ k, k + 1 = i → i < n → ¬ t k = t i) → sb_Lat (rn_out t n i).1 (rn_out t n i).2 a → sb_Fit a →
    wX1_runs_10 post mc ms f (nI i) kc ks 0 h z b n 0 ml (nI (rn_out t n i).2) a 16 := by
  intro f
  induction f with
  | zero =>
    intro i a hf
    omega
  | succ f ih =>
    intro i a hfu hi hs hL hf
    have hc := rn_out_le t n i
    rw [wX1_runs_10]
    refine sv_length (pk_le n i (fun hle => ?_) (fun hlt => ?_))
    · obtain rfl : i = n := by omega
      exact ⟨2, 20, by omega, by omega, sb_toString (by omega) (by decide) hL hf (by decide) (by omega) (fun a' h1 _ => hp a' h1)⟩
    · refine ⟨n - i + 1, rx_20 hn hlt hT (fun j hij hj he hx => ?_) (n - i) i (by omega) (Nat.le_refl i) (fun k h1 h2 => absurd h2 (by omega))⟩
      have e := rn_run (fun k hk => hs k hk hlt) hij hj he hx
      refine rx_47 (T := (rn_out t n i).1) hn hij hj (by omega) (by omega) (by omega) hT hL hf ?_
      show ∀ a', sb_Lat (rn_emit (rn_out t n i) (j - i) (t i)).1 (rn_emit (rn_out t n i) (j - i) (t i)).2 a' → sb_Fit a' → wX1_runs_10 post mc ms f (nI j) kc ks 0 h z b n 0 ml (nI (rn_emit (rn_out t n i) (j - i) (t i)).2) a' 16
      rw [← e]
      refine fun a' h1 h2 => ih j a' (by omega) hj (fun k hk hjn q => ?_) h1 h2
      have e3 : t k = t i := he k (by omega) (by omega)
      rcases hx with y | y
      · omega
      · exact y (q.symm.trans e3)
theorem rx_runs {post : St2 → Prop} {mc ms n : Nat} {h z : Int32} {t : Nat → Nat} {b : Nat → Int32} (hn : n ≤ 8) (hmc : 4 ≤ mc) (hms : 40 ≤ ms) (hT : sb_Lat t n b)
    (hp : ∀ a', sb_Lat (rn_out t n n).1 (rn_out t n n).2 a' → post (0, h, z, b, n, 0, 0, 0, a', (rn_out t n n).2)) : wpX1_runs post mc ms (0, h, z, b, n) :=
  ⟨by omega, by omega, 1, 16, by omega, by omega, rn_sb ⟨n + 1, rx_10 hn (by omega) (by omega) hT hp (n + 1) 0 _ (by omega) (by omega) (fun k hk => absurd hk (by omega)) (fun j hj => absurd hj (Nat.not_lt_zero j)) sb_fit0⟩⟩
end
section
/-! ===== the twin: runs from their last places ===== -/
section second
variable {post : St2 → Prop} {mc ms kc ks n p c : Nat} {J : Int32 → Nat → Nat → Int32 → Int32 → Int32 → (Nat → Int32) → Nat → Int32 → Int32 → Int32 → (Nat → Int32) → Nat → Prop} {h z ml : Int32} {t T : Nat → Nat} {a b : Nat → Int32}
theorem ry_86 (hn : n ≤ 8) (hi : p < n) (hc : c + 1 ≤ 16) (hkc : kc ≤ mc) (hks : ks ≤ ms) (hT : sb_Lat t n b) (hL : sb_Lat T c a) (hf : sb_Fit a)
    (hJ : ∀ a', sb_Lat (sb_cat T c (fun _ => t p)) (c + 1) a' → sb_Fit a' → J (nI (p + 1)) kc ks 0 h z b n 0 ml (nI (c + 1)) a' 16) : wX2_runs_86 post mc ms J (nI p) kc ks 0 h z b n 0 ml (nI c) a 16 := by
  unfold wX2_runs_86
  exact sv_charAt (by omega) hT hi ⟨0, 0, hkc, hks, rn_ac hc hL hf (hT p hi).1 (fun a' h1 h2 => nm_r (nI_1 p) (hJ a' h1 h2))⟩
/-- appendNumber of one digit -/
theorem ry_num {Q : St3 → Prop} {d v : Nat} (hv : v < 10) (hc : c + 1 ≤ 16) (hL : sb_Lat T c a) (hf : sb_Fit a)
    (hp : ∀ a', sb_Lat (sb_cat T c (fun _ => 48 + v)) (c + 1) a' → sb_Fit a' → Q (0, ml, nI (c + 1), a', 16)) : wpX2_appendNumber (d + 1) Q 0 0 (0, ml, nI c, a, 16) (nI v) := by
  refine br_t (show nI v < nI 10 from nI_lt hv (by decide)) ⟨by decide, 0, 0, by decide, by decide, ?_⟩
  rw [rn_dig hv]
  exact rn_ac hc hL hf (by omega) hp
theorem ry_76 {l : Nat} (hn : n ≤ 8) (hi : p < n) (hl : l < 10) (hc : c + 2 ≤ 16) (hkc : kc ≤ mc) (hks : ks ≤ ms) (hT : sb_Lat t n b) (hL : sb_Lat T c a) (hf : sb_Fit a)
    (hJ : ∀ a', sb_Lat (rn_emit (T, c) l (t p)).1 (rn_emit (T, c) l (t p)).2 a' → sb_Fit a' → J (nI (p + 1)) kc ks 0 h z b n 0 ml (nI (rn_emit (T, c) l (t p)).2) a' 16) :
    wX2_runs_76 post mc ms J (nI p) (nI l) kc ks 0 h z b n 0 ml (nI c) a 16 := by
  unfold wX2_runs_76
  refine pk_le l 1 (fun g => ?_) (fun g => ?_)
  · rw [rn_emit_1 g] at hJ
    exact ry_86 hn hi (by omega) hkc hks hT hL hf hJ
  · rw [rn_emit_2 g] at hJ
    exact ⟨0, 0, hkc, hks, ry_num hl (by omega) hL hf (fun a' h1 h2 => ry_86 hn hi (by omega) hkc hks hT h1 h2 hJ)⟩
theorem ry_48 {co : Int32} (hn : n ≤ 8) (hi : p < n) (hT : sb_Lat t n b) (H : wX2_runs_76 post mc ms J (nI p) (nI (rn_left t (t p) (p + 1))) kc ks 0 h z b n 0 ml co a 16) :
    ∀ m, m ≤ p + 1 → p + 1 - m + rn_left t (t p) m = rn_left t (t p) (p + 1) → wX2_runs_48 post mc ms J (nI p) kc ks 0 h z b n 0 ml co a 16 (m + 1) (nI (p + 1 - m)) (nI m + (-1)) := by
  intro m
  induction m with
  | zero =>
    intro hm e
    rw [wX2_runs_48]
    refine br_t (by decide) ?_
    rw [rn_left, Nat.add_zero] at e
    rw [e]
    exact H
  | succ m ih =>
    intro hm e
    have b1 := (hT m (by omega)).1
    have b2 := (hT p hi).1
    rw [pk_m1, wX2_runs_48]
    refine br_f (nI_pos (by omega)) (sv_charAt (by omega) hT (by omega) (sv_charAt (by omega) hT hi (ek_if (nI_eq (by omega) (by omega)) (fun q => ?_) (fun q => ?_))))
    · rw [rn_left, if_pos q] at e
      refine nm_r ((nI_1 _).trans (congrArg nI (show p + 1 - (m + 1) + 1 = p + 1 - m by omega))) (nm_e (ih (by omega) (by omega)))
    · rw [rn_left, if_neg q, Nat.add_zero] at e
      rw [e]
      exact H
end second
theorem ry_10 {post : St2 → Prop} {mc ms kc ks n : Nat} {h z ml : Int32} {t : Nat → Nat} {b : Nat → Int32} (hn : n ≤ 8) (hkc : kc + 2 ≤ mc) (hks : ks + 20 ≤ ms) (hT : sb_Lat t n b)
    (hp : ∀ a', sb_Lat (rn_out t n n).1 (rn_out t n n).2 a' → post (0, h, z, b, n, 0, 0, 0, a', (rn_out t n n).2)) :
    ∀ (d p : Nat) (a : Nat → Int32), p + d = n → sb_Lat (rn_out t n p).1 (rn_out t n p).2 a → sb_Fit a →
    wX2_runs_10 post mc ms (d + 1) (nI p) kc ks 0 h z b n 0 ml (nI (rn_out t n p).2) a 16 := by
  intro d
  induction d with
  | zero =>
    intro p a hd hL hf
    obtain rfl : p = n := by omega
    have hc := rn_out_le t p p
    rw [wX2_runs_10]
    exact sv_length (br_t (nI_le (by omega) (by omega)) ⟨2, 20, by omega, by omega, sb_toString (by omega) (by decide) hL hf (by decide) (by omega) (fun a' h1 _ => hp a' h1)⟩)
  | succ d ih =>
    intro p a hd hL hf
    have hc := rn_out_le t n p
    have hl := rn_left_le t (t p) (p + 1)
    have E : (p + 1 = n ∨ ¬ t (p + 1) = t p) → ∃ fu, wX2_runs_48 post mc ms (wX2_runs_10 post mc ms (d + 1)) (nI p) kc ks 0 h z b n 0 ml (nI (rn_out t n p).2) a 16 fu 0 (nI p) := by
      intro hx
      have e := rn_out_t (n := n) hx
      have H : wX2_runs_76 post mc ms (wX2_runs_10 post mc ms (d + 1)) (nI p) (nI (rn_left t (t p) (p + 1))) kc ks 0 h z b n 0 ml (nI (rn_out t n p).2) a 16 := by
        refine ry_76 (T := (rn_out t n p).1) hn (by omega) (by omega) (by omega) (by omega) (by omega) hT hL hf ?_
        show ∀ a', sb_Lat (rn_emit (rn_out t n p) (rn_left t (t p) (p + 1)) (t p)).1 (rn_emit (rn_out t n p) (rn_left t (t p) (p + 1)) (t p)).2 a' → sb_Fit a' → wX2_runs_10 post mc ms (d + 1) (nI (p + 1)) kc ks 0 h z b n 0 ml (nI (rn_emit (rn_out t n p) (rn_left t (t p) (p + 1)) (t p)).2) a' 16
        rw [← e]
        exact fun a' h1 h2 => ih (p + 1) a' (by omega) h1 h2
      have W := ry_48 hn (by omega) hT H (p + 1) (Nat.le_refl _) (by omega)
      rw [pk_m1, Nat.sub_self, nI_0] at W
      exact ⟨_, W⟩
    rw [wX2_runs_10]
    refine sv_length (br_f (nI_ge (by omega) (by omega)) (sv_length ?_))
    rw [nI_1]
    refine pk_eq (p + 1) n (fun q => E (Or.inl q)) (fun q => ?_)
    have b1 := (hT (p + 1) (by omega)).1
    have b2 := (hT p (by omega)).1
    refine sv_charAt (by omega) hT (by omega) (sv_charAt (by omega) hT (by omega) (ek_if (nI_eq (by omega) (by omega)) (fun g => nm_e ?_) (fun g => E (Or.inr g))))
    have e := rn_out_f (t := t) (n := n) (p := p) (fun o => o.elim q (fun o => o g))
    have W := ih (p + 1) a (by omega) (by rw [e]; exact hL) hf
    rw [e] at W
    exact W
theorem ry_runs {post : St2 → Prop} {mc ms n : Nat} {h z : Int32} {t : Nat → Nat} {b : Nat → Int32} (hn : n ≤ 8) (hmc : 4 ≤ mc) (hms : 40 ≤ ms) (hT : sb_Lat t n b)
    (hp : ∀ a', sb_Lat (rn_out t n n).1 (rn_out t n n).2 a' → post (0, h, z, b, n, 0, 0, 0, a', (rn_out t n n).2)) : wpX2_runs post mc ms (0, h, z, b, n) :=
  ⟨by omega, by omega, 1, 16, by omega, by omega, rn_sb ⟨n + 1, ry_10 hn (by omega) (by omega) hT hp n 0 _ (by omega) (fun j hj => absurd hj (Nat.not_lt_zero j)) sb_fit0⟩⟩
end
section
/-! ===== no letters at all: the text is the String constant "" ===== -/
theorem rz_length {post : Int32 → Prop} {h z : Int32} (hp : post (nI 0)) : wpJ0_length_8abf5_b72f9 post (0, h, z) :=
  ⟨by decide, Eq.mpr (congrArg post (sb_shr0 (Int32.ofNat (lenJS.getD 0 0)))) hp⟩
theorem rz_first {post : St5 → Prop} {mc ms : Nat} {h z : Int32} (hmc : 4 ≤ mc) (hms : 40 ≤ ms) (hp : ∀ a', post (0, h, z, 0, 0, 0, a', 0)) : wpX1_runs_2 post mc ms (0, h, z) := by
  refine ⟨by omega, by omega, 1, 16, by omega, by omega, rn_sb ⟨1, ?_⟩⟩
  rw [wX1_runs_2_10]
  exact rz_length (br_t (by decide) ⟨2, 20, by omega, by omega, sb_toString (t := fun _ => 0) (n := 0) (by decide) (by decide) (fun j hj => absurd hj (Nat.not_lt_zero j)) sb_fit0 (by decide) (by decide) (fun a' _ _ => hp a')⟩)
theorem rz_second {post : St5 → Prop} {mc ms : Nat} {h z : Int32} (hmc : 4 ≤ mc) (hms : 40 ≤ ms) (hp : ∀ a', post (0, h, z, 0, 0, 0, a', 0)) : wpX2_runs_2 post mc ms (0, h, z) := by
  refine ⟨by omega, by omega, 1, 16, by omega, by omega, rn_sb ⟨1, ?_⟩⟩
  rw [wX2_runs_2_10]
  exact rz_length (br_t (by decide) ⟨2, 20, by omega, by omega, sb_toString (t := fun _ => 0) (n := 0) (by decide) (by decide) (fun j hj => absurd hj (Nat.not_lt_zero j)) sb_fit0 (by decide) (by decide) (fun a' _ _ => hp a')⟩)
/-! ===== the law ===== -/
theorem rl_ch {P : Int32 → Prop} {x : Int64} (h : ∀ c, c < 256 → P (nI c)) : ∀ y, y = ((x &&& 255).toInt32.toUInt32 % 65536).toInt32 → P y := by
  intro y e
  obtain ⟨c, hc, ec⟩ := rn_ch x
  rw [e, ec]
  exact h c hc
theorem rl_put {am : Nat → Int32} {i c : Nat} (h : ∀ j, j < i → ∃ q, q < 256 ∧ am j = nI q) (hc : c < 256) : ∀ j, j < i + 1 → ∃ q, q < 256 ∧ upd am i (nI c) j = nI q := by
  intro j hj
  by_cases e : j = i
  · rw [e, pk_us]
    exact ⟨c, hc, rfl⟩
  · rw [pk_un e]
    exact h j (by omega)
theorem rl_29 {post : Int32 → St0 → Prop} (hP : post 1 ()) {x1 : Int64} {x3 : Int32} {N : Nat} (hN : N ≤ 8) :
    ∀ (d i c : Nat) (am : Nat → Int32), i + d = N → c < 256 → (∀ j, j < i → ∃ q, q < 256 ∧ am j = nI q) → wL_lawOf_29 post 18 288 x1 x3 1 (0 + N) N (d + 1) (nI c) (nI i) am := by
  intro d
  induction d with
  | zero =>
    intro i c am hd hc hm
    obtain rfl : i = N := by omega
    rw [wL_lawOf_29]
    refine br_t (nI_le (by omega) (by omega)) ⟨by omega, by omega, 1, 8, by omega, by omega, ?_⟩
    by_cases h0 : i = 0
    · subst h0
      refine ⟨1, 8, by omega, by omega, br_t (by decide) ?_⟩
      exact ⟨4, 40, by omega, by omega, rz_first (by decide) (by decide) (fun a1 => ⟨4, 40, by omega, by omega, rz_second (by decide) (by decide) (fun a2 => sv_equals (by decide) (fun j hj => absurd hj (Nat.not_lt_zero j)) ⟨by decide, hP⟩)⟩)⟩
    · refine sv_new (t := fun j => (am j).toNatClampNeg) (by omega) (by omega) (fun j hj => ?_) (by decide) (by omega) (fun b hb hfb => ?_)
      · obtain ⟨q, hq, e⟩ := hm j hj
        show (am j).toNatClampNeg < 256 ∧ am j = nI (am j).toNatClampNeg
        rw [e, nI_clamp (by omega)]
        exact ⟨hq, rfl⟩
      · have B := rn_out_le (fun j => (am j).toNatClampNeg) i i
        exact ⟨4, 40, by omega, by omega, rx_runs hN (by decide) (by decide) hb (fun a1 h1 => ⟨4, 40, by omega, by omega, ry_runs hN (by decide) (by decide) hb (fun a2 h2 => sv_equals (by omega) (fun j hj => (h1 j hj).2.trans (h2 j hj).2.symm) ⟨by decide, hP⟩)⟩)⟩
  | succ d ih =>
    intro i c am hd hc hm
    rw [wL_lawOf_29]
    refine br_f (nI_ge (by omega) (by omega)) (br_c (fun _ => rl_ch (fun q hq => ⟨vp_in_nI (by omega) (by omega), ?_⟩)) (fun _ => ⟨vp_in_nI (by omega) (by omega), ?_⟩))
    · exact nm_r (e' := upd am i (nI q)) (by rw [nI_clamp (by omega), rn_vc (by omega)]) (nm_r (nI_1 i) (ih (i + 1) q _ (by omega) hq (rl_put hm hq)))
    · exact nm_r (e' := upd am i (nI c)) (by rw [nI_clamp (by omega), rn_vc (by omega)]) (nm_r (nI_1 i) (ih (i + 1) c _ (by omega) hc (rl_put hm hc)))
theorem rl_lawOf {post : Int32 → St0 → Prop} (hP : post 1 ()) (p0 : Int32) (p1 : Int64) (p2 : Int32) : wpL_lawOf post 18 288 () p0 p1 p2 := by
  obtain ⟨j, hj, e⟩ := pk_andE p0 (m := 15) 4 (by decide)
  unfold wpL_lawOf
  rw [e]
  refine pk_le j 8 (fun hle => ⟨nI_pos (by omega), nm_r (nI_clamp (by omega)) ⟨by omega, by decide, by omega, j + 1, ?_⟩⟩) (fun _ => ⟨by decide, nm_r (e' := 8) (by decide) ⟨by decide, by decide, by decide, 9, ?_⟩⟩)
  · exact rl_29 hP hle j 0 51 _ (by omega) (by decide) (fun q hq => absurd hq (Nat.not_lt_zero q))
  · exact rl_29 hP (Nat.le_refl 8) 8 0 51 _ (by omega) (by decide) (fun q hq => absurd hq (Nat.not_lt_zero q))
theorem rl_cell {post : Int32 → Prop} {L k : Nat} {xs : Nat → Int32} (hL : L ≤ 4) (hk : k ≤ 3) (hp : ∀ r, post r) : wpL_cellAt post L xs () (nI k) :=
  pk_le L k (fun _ => hp 0) (fun h => ⟨vp_in_nI h (by omega), hp _⟩)
theorem i_vc (xs : Nat → Int32) (L : Nat) (hL : L ≤ 4) : wpL_law (fun r => r = 1) L xs :=
  rl_cell (k := 0) hL (by decide) (fun r1 => rl_cell (k := 1) hL (by decide) (fun r2 => rl_cell (k := 2) hL (by decide) (fun r3 => rl_cell (k := 3) hL (by decide) (fun r4 => ⟨18, 288, by decide, by decide, rl_lawOf rfl _ _ _⟩))))
end
