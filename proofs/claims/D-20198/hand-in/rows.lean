section
theorem sb_copyOf {post : StJefc9b → Prop} {mc ms : Nat} {a : Nat → Int32} {m q : Nat} (h : m < q) (hq : q ≤ 65536) (hf : sb_Fit a) (hmc : 1 ≤ mc) (hms : q ≤ ms)
    (hp : post (a, m, va_cpy a (fun _ => 0) 0 0 m, q)) : wpJ7_copyOf_9075b_9260e post mc ms (a, m) (nI q) := by
  have ei : (if nI q < Int32.ofNat m then nI q else Int32.ofNat m) = nI m := if_neg (nI_nlt (by omega) (by omega))
  have ec : (nI m).toNatClampNeg = m := nI_clamp (by omega)
  refine br_f (fun z => by have := (nI_eq (by omega) (by omega)).mp (show nI q = nI m from z); omega) ⟨nI_pos (by omega), nm_r (nI_clamp (by omega)) ⟨by omega, hmc, by omega, ?_⟩⟩
  rw [ei, ec, sb_cl0]
  exact ⟨by decide, by decide, nI_pos (by omega), by omega, by omega, fun i _ => hf _, nm_e hp⟩
/-- AbstractStringBuilder.ensureCapacityInternal, of Latin-1 bytes -/
theorem sb_ensure {post : StJ4ec0e → Prop} {mc ms : Nat} {ml z : Int32} {a : Nat → Int32} {m q : Nat} (hm : m ≤ 65536) (hq : q < 2 ^ 28) (hf : sb_Fit a) (hr : sb_Room q m mc ms)
    (hp : ∀ a', sb_Fit a' → (∀ j, j < m → a' j = a j) → post (0, ml, z, a', sb_cap q m)) : wpJ5_ensureCapacityInternal_d00df_b0715 post mc ms (0, ml, z, a, m) (nI q) := by
  have e1 : (nI q - Int32.ofNat m).toInt = (q : Int) - m := pk_sub_toInt (by omega) (by omega)
  refine nm_r (sb_shr0 (Int32.ofNat m)) ?_
  by_cases h : q ≤ m
  · refine br_t (by rw [Int32.le_iff_toInt_le, e1, Int32.toInt_zero]; omega) ?_
    have h9 := hp a hf (fun _ _ => rfl)
    rw [sb_cap, if_pos h] at h9
    exact h9
  · have hr' : 1 ≤ mc ∧ sb_cap q m ≤ ms ∧ sb_cap q m ≤ 65536 := hr.resolve_left h
    have hc : sb_cap q m = m + (if q - m < m + 2 then m + 2 else q - m) := by
      unfold sb_cap
      rw [if_neg h]
      split <;> split <;> omega
    have hg := sb_cap_ge q m
    refine br_f (fun hc => h (by rw [Int32.le_iff_toInt_le, e1, Int32.toInt_zero] at hc; omega)) ?_
    have e2 : Int32.ofNat m + ((2 : Int32) <<< ((0 : Int32) &&& 31)) = nI (m + 2) := by
      rw [sb_shl0]
      exact nI_add m 2
    have e3 : Int32.ofNat m + (if nI (q - m) < nI (m + 2) then nI (m + 2) else nI (q - m)) = nI (sb_cap q m) := by
      rw [hc]
      by_cases h2 : q - m < m + 2
      · rw [if_pos h2, if_pos (nI_lt h2 (by omega))]
        exact nI_add m (m + 2)
      · rw [if_neg h2, if_neg (nI_nlt (by omega) (by omega))]
        exact nI_add m (q - m)
    refine nm_e (nm_r (sb_shl0 (nI q)) (nm_r (show nI q - nI m = nI (q - m) from pk_sub (by omega)) ?_))
    rw [e2]
    refine nm_r e3 (br_f (nI_nle (by omega) (by omega)) (br_f (show ¬ nI 2147483639 < nI (sb_cap q m) from nI_nlt (by omega) (by decide)) ?_))
    refine br_f (fun z9 => by have := (nI_eq (by omega) (by decide)).mp (show nI (sb_cap q m) = nI 2147483647 from z9); omega) ?_
    rw [sb_shr0]
    refine ⟨mc, ms, by omega, by omega, ?_⟩
    rw [sb_shl0]
    exact sb_copyOf (by omega) hr'.2.2 hf hr'.1 hr'.2.1 (hp _ (sb_fitC hf sb_fit0) (fun j hj => sb_cpy0 hj))
/-- StringBuilder.append(char), a Latin-1 letter c -/
theorem sb_appendChar {post : StJ4ec0e → Prop} {mc ms : Nat} {ml : Int32} {t : Nat → Nat} {a : Nat → Int32} {n m c : Nat} (hnm : n ≤ m) (hm : m ≤ 65536) (hL : sb_Lat t n a) (hf : sb_Fit a) (hc : c < 256) (hr : sb_Room (n + 1) m mc ms)
    (hp : ∀ a', sb_Lat (sb_cat t n (fun _ => c)) (n + 1) a' → sb_Fit a' → post (0, ml, nI (n + 1), a', sb_cap (n + 1) m)) : wpJ4_append_cf468_b0715 post mc ms (0, ml, nI n, a, m) (nI c) := by
  have hg := sb_cap_ge (n + 1) m
  have hl := sb_cap_le hm hr
  refine ⟨mc, ms, by omega, by omega, mc, ms, by omega, by omega, ?_⟩
  rw [nI_1]
  refine sb_ensure hm (by omega) hf hr (fun a' hf' hk => ?_)
  refine br_t rfl (br_f (by decide) ?_)
  refine br_f (show ¬ nI 255 < nI c from nI_nlt (by omega) (by decide)) (br_f (by decide) ?_)
  refine nm_r (nI_1 n) ⟨vp_in_nI (by omega) (by omega), nm_r (e' := upd a' n (sb_b c)) (by rw [nI_clamp (by omega), pk_vb]; rfl) ?_⟩
  refine hp _ (sb_latPut hL (fun j hj => ?_) (fun i hi => ?_)) (sb_fitU hf' (sb_fitB c))
  · rw [pk_un (by omega)]
    exact hk j (by omega)
  · obtain rfl : i = 0 := by omega
    exact ⟨hc, pk_us⟩
theorem sb_copyRange {post : StJefc9b → Prop} {mc ms : Nat} {a : Nat → Int32} {n m : Nat} (hnm : n ≤ m) (hm : m ≤ 65536) (hf : sb_Fit a) (hmc : 1 ≤ mc) (hms : n ≤ ms)
    (hp : ∀ a', sb_Fit a' → (∀ j, j < n → a' j = a j) → post (a, m, a', n)) : wpJ7_copyOfRange_39247_f5dda post mc ms (a, m) 0 (nI n) := by
  refine br_t rfl (pk_eq n m (fun e => ?_) (fun e => ?_))
  · subst e
    exact ⟨fun i _ => hf i, hmc, by omega, hp a hf (fun _ _ => rfl)⟩
  · have ei : (if nI n < (Int32.ofNat m - 0) then nI n else (Int32.ofNat m - 0)) = nI n := by
      rw [show Int32.ofNat m - 0 = nI m from pk_sub (a := m) (b := 0) (by omega)]
      exact if_pos (nI_lt (by omega) (by omega))
    refine ⟨mc, ms, by omega, by omega, br_t (nI_pos' (by omega)) (nm_r (e' := nI n) (pk_sub (a := n) (b := 0) (by omega)) ⟨nI_pos (by omega), nm_r (nI_clamp (by omega)) ⟨by omega, hmc, by omega, ?_⟩⟩)⟩
    rw [ei, nI_clamp (n := n) (by omega), sb_cl0]
    exact ⟨by decide, by decide, nI_pos (by omega), by omega, by omega, fun i _ => hf _, nm_e (hp _ (sb_fitC hf sb_fit0) (fun j hj => sb_cpy0 hj))⟩
/-- StringBuilder.toString -/
theorem sb_toString {post : StJ9c5ae → Prop} {mc ms : Nat} {ml : Int32} {t : Nat → Nat} {a : Nat → Int32} {n m : Nat} (hnm : n ≤ m) (hm : m ≤ 65536) (hL : sb_Lat t n a) (hf : sb_Fit a) (hmc : 2 ≤ mc) (hms : n + 4 ≤ ms)
    (hp : ∀ a', sb_Lat t n a' → sb_Fit a' → post (0, ml, nI n, a, m, 0, 0, 0, a', n)) : wpJ4_toString_0e30d_76c3d post mc ms (0, ml, nI n, a, m) := by
  refine ⟨by omega, by omega, mc - 1, ms - 4, by omega, by omega, mc - 1, ms - 4, by omega, by omega, br_t rfl (br_f (by decide) ⟨mc - 1, ms - 4, by omega, by omega, ?_⟩)⟩
  exact sb_copyRange hnm hm hf (by omega) (by omega) (fun a' hf' hk => hp a' (sb_latKeep hL hk) hf')
/-- String.equals of two Strings with the same bytes -/
theorem sv_equals {post : Int32 → Prop} {h z h' z' : Int32} {a a' : Nat → Int32} {n : Nat} (hn : n ≤ 65536) (he : ∀ j, j < n → a j = a' j) (hp : post 1) : wpJ0_equals_9ea2d_d3b40 post (0, h, z, a, n, 0, h', z', a', n) := by
  have L : ∀ (P : Int32 → Prop), P 1 → ∀ (d k : Nat), k + d = n → wJ1_equals_b5fdf_9f0d2_9 P a n a' n (d + 1) (nI k) := by
    intro P h1 d
    induction d with
    | zero =>
      intro k hk
      rw [wJ1_equals_b5fdf_9f0d2_9]
      exact br_t ((nI_leI (by omega) (by omega)).mpr (by omega)) h1
    | succ d ih =>
      intro k hk
      rw [wJ1_equals_b5fdf_9f0d2_9]
      refine br_f (nI_ge (by omega) (by omega)) ⟨vp_in_nI (by omega) (by omega), vp_in_nI (by omega) (by omega), br_t ?_ (nm_r (nI_1 k) (ih (k + 1) (by omega)))⟩
      rw [nI_clamp (by omega)]
      exact he k (by omega)
  exact br_t rfl (br_t rfl ⟨n + 1, L _ (br_f (by decide) hp) n 0 (by omega)⟩)
/-- Integer.DigitOnes, Integer.DigitTens -/
theorem sb_tab : ∀ k, k < 100 → vp_nar .byte (tabJ4c4d6.getD k 0) = sb_b (48 + k % 10) ∧ vp_nar .byte (tabJe9b5b.getD k 0) = sb_b (48 + k / 10) := by decide +kernel
end
section
/-! RadixTexts.digits (Integer.toString): the bytes that it makes are the decimal text of w, behind '-' where d is 1. w up to 2 ^ 31 (the smallest int) -/
theorem rx_negT {w : Nat} (h : w ≤ 2 ^ 31) : (-nI w).toInt = -(w : Int) := by
  by_cases e : w < 2 ^ 31
  · exact sb_negT e
  · obtain rfl : w = 2 ^ 31 := by omega
    decide
theorem rx_nle {a b : Nat} (ha : a ≤ 2 ^ 31) (hb : b ≤ 2 ^ 31) : -nI a ≤ -nI b ↔ b ≤ a := by
  rw [Int32.le_iff_toInt_le, rx_negT ha, rx_negT hb]
  omega
theorem rx_nlt {a b : Nat} (ha : a ≤ 2 ^ 31) (hb : b ≤ 2 ^ 31) : -nI a < -nI b ↔ b < a := by
  rw [Int32.lt_iff_toInt_lt, rx_negT ha, rx_negT hb]
  omega
theorem rx_cmp {A B : Prop} {x : Int32} (v c : Nat) (f : c ≤ v → A) (g : v < c → B) (hv : v ≤ 2 ^ 31) (hx : x = -nI c := by rfl) (hc : c ≤ 2 ^ 31 := by omega) : (-nI v ≤ x → A) ∧ (¬ -nI v ≤ x → B) := by
  subst hx
  rw [rx_nle hv hc]
  exact ⟨f, fun z => g (by omega)⟩
theorem rx_ndiv {w : Nat} (hw : w ≤ 2 ^ 31) : (-nI w) / 100 = -nI (w / 100) := by
  apply Int32.toInt_inj.mp
  have h100 : (100 : Int32).toInt = 100 := by decide
  rw [Int32.toInt_div, rx_negT hw, h100, rx_negT (by omega), Int.neg_tdiv, Int.tdiv_eq_ediv_of_nonneg (by omega), Int.bmod_eq_of_le (by omega) (by omega)]
  omega
theorem rx_nrem (w : Nat) : (-nI (w / 100)) * 100 - (-nI w) = nI (w % 100) := by
  have h : nI w = nI (w / 100) * nI 100 + nI (w % 100) := by
    rw [pk_mul, nI_add]
    exact congrArg nI (by omega)
  show (-nI (w / 100)) * nI 100 - (-nI w) = nI (w % 100)
  rw [h]
  generalize nI (w / 100) = p
  generalize nI (w % 100) = q
  generalize nI 100 = r
  grind
theorem rx_dg100 {w : Nat} (h : 100 ≤ w) (hw : w ≤ 2 ^ 31) : sb_dg w = sb_dg (w / 100) + 2 := by
  by_cases e : w < 2 ^ 31
  · exact sb_dg100 h e
  · obtain rfl : w = 2 ^ 31 := by omega
    decide
/-- Integer.stringSize's loop, over minus w -/
theorem rx_sizeL {post : Int32 → Prop} {w d : Nat} (hv : w ≤ 2 ^ 31) (hp : post (nI (sb_dg w + d))) : wJ6_stringSize_0f7a4_565d2_16 post (-nI w) (nI d) 11 (-10) 1 := by
  have hs : ∀ i, sb_dg w = i → post (nI (i + d)) := fun i e => e ▸ hp
  rw [wJ6_stringSize_0f7a4_565d2_16]
  refine br_f (by decide) (rx_cmp w 10 (fun h1 => ?_) (fun h => sb_at (P := post) (nI_add 1 d) (hs 1 (by unfold sb_dg; (repeat' split) <;> omega))) hv)
  refine nm_r (e' := -100) (by decide) (nm_r (e' := 2) (by decide) ?_)
  rw [wJ6_stringSize_0f7a4_565d2_16]
  refine br_f (by decide) (rx_cmp w 100 (fun h2 => ?_) (fun h => sb_at (P := post) (nI_add 2 d) (hs 2 (by unfold sb_dg; (repeat' split) <;> omega))) hv)
  refine nm_r (e' := -1000) (by decide) (nm_r (e' := 3) (by decide) ?_)
  rw [wJ6_stringSize_0f7a4_565d2_16]
  refine br_f (by decide) (rx_cmp w 1000 (fun h3 => ?_) (fun h => sb_at (P := post) (nI_add 3 d) (hs 3 (by unfold sb_dg; (repeat' split) <;> omega))) hv)
  refine nm_r (e' := -10000) (by decide) (nm_r (e' := 4) (by decide) ?_)
  rw [wJ6_stringSize_0f7a4_565d2_16]
  refine br_f (by decide) (rx_cmp w 10000 (fun h4 => ?_) (fun h => sb_at (P := post) (nI_add 4 d) (hs 4 (by unfold sb_dg; (repeat' split) <;> omega))) hv)
  refine nm_r (e' := -100000) (by decide) (nm_r (e' := 5) (by decide) ?_)
  rw [wJ6_stringSize_0f7a4_565d2_16]
  refine br_f (by decide) (rx_cmp w 100000 (fun h5 => ?_) (fun h => sb_at (P := post) (nI_add 5 d) (hs 5 (by unfold sb_dg; (repeat' split) <;> omega))) hv)
  refine nm_r (e' := -1000000) (by decide) (nm_r (e' := 6) (by decide) ?_)
  rw [wJ6_stringSize_0f7a4_565d2_16]
  refine br_f (by decide) (rx_cmp w 1000000 (fun h6 => ?_) (fun h => sb_at (P := post) (nI_add 6 d) (hs 6 (by unfold sb_dg; (repeat' split) <;> omega))) hv)
  refine nm_r (e' := -10000000) (by decide) (nm_r (e' := 7) (by decide) ?_)
  rw [wJ6_stringSize_0f7a4_565d2_16]
  refine br_f (by decide) (rx_cmp w 10000000 (fun h7 => ?_) (fun h => sb_at (P := post) (nI_add 7 d) (hs 7 (by unfold sb_dg; (repeat' split) <;> omega))) hv)
  refine nm_r (e' := -100000000) (by decide) (nm_r (e' := 8) (by decide) ?_)
  rw [wJ6_stringSize_0f7a4_565d2_16]
  refine br_f (by decide) (rx_cmp w 100000000 (fun h8 => ?_) (fun h => sb_at (P := post) (nI_add 8 d) (hs 8 (by unfold sb_dg; (repeat' split) <;> omega))) hv)
  refine nm_r (e' := -1000000000) (by decide) (nm_r (e' := 9) (by decide) ?_)
  rw [wJ6_stringSize_0f7a4_565d2_16]
  refine br_f (by decide) (rx_cmp w 1000000000 (fun h9 => ?_) (fun h => sb_at (P := post) (nI_add 9 d) (hs 9 (by unfold sb_dg; (repeat' split) <;> omega))) hv)
  refine nm_e (nm_r (e' := 10) (by decide) ?_)
  rw [wJ6_stringSize_0f7a4_565d2_16]
  exact br_t (by decide) (sb_at (P := post) (nI_add 10 d) (hs 10 (by unfold sb_dg; (repeat' split) <;> omega)))
/-- Integer.getChars' loop, backwards from p, over minus w -/
theorem rx_getChars {P : Int32 → StJf0261 → Prop} {x6 : Int32} {m n : Nat} (hm : m ≤ 65536) : ∀ (f w p : Nat) (a : Nat → Int32), w < f → w ≤ 2 ^ 31 → p = n + sb_dg w → p ≤ m →
    (∀ a', (∀ j, j < n ∨ p ≤ j → a' j = a j) → (∀ i, i < sb_dg w → a' (p - 1 - i) = sb_b (48 + w / 10 ^ i % 10)) → wJ6_getChars_ba4f3_543e4_104 P (nI n) x6 a' m) →
    wJ6_getChars_ba4f3_543e4_22 P x6 m f (-nI w) (nI p) a := by
  intro f
  induction f with
  | zero =>
    intro w p a h
    omega
  | succ f ih =>
    intro w p a hwf hw hp hpm hP
    have hd1 := (sb_dg_in w).1
    have e1 : -(-nI w) = nI w := Int32.neg_neg
    rw [wJ6_getChars_ba4f3_543e4_22]
    by_cases h100 : w < 100
    · obtain ⟨t1, t2⟩ := sb_tab w h100
      have ew : (nI w).toNatClampNeg = w := nI_clamp (by omega)
      refine br_t (show -nI 100 < -nI w from (rx_nlt (by decide) hw).mpr h100) (nm_r (sb_m1 (by omega)) ⟨by rw [e1]; exact vp_in_nI h100 (by decide), vp_in_nI (by omega) (by omega), ?_⟩)
      refine nm_r (e' := upd a (p - 1) (sb_b (48 + w % 10))) (by rw [e1, ew, nI_clamp (by omega), t1]) ?_
      by_cases h9 : w < 10
      · have hd : sb_dg w = 1 := if_pos h9
        refine br_t (show -nI 9 ≤ -nI w from (rx_nle (by decide) hw).mpr (by omega)) ?_
        rw [show nI (p - 1) = nI n from congrArg nI (by omega)]
        refine hP _ (fun j hj => pk_un (by omega)) (fun i hi => ?_)
        obtain rfl : i = 0 := by omega
        rw [Nat.sub_zero, pk_us, Nat.pow_zero, Nat.div_one]
      · have hd : sb_dg w = 2 := by rw [sb_dg, if_neg h9, if_pos h100]
        have d2 : w / 10 % 10 = w / 10 := by omega
        refine br_f (fun z => by have := (rx_nle (by decide) hw).mp (show -nI 9 ≤ -nI w from z); omega) (nm_r (sb_m1 (by omega)) ⟨by rw [e1]; exact vp_in_nI h100 (by decide), vp_in_nI (by omega) (by omega), ?_⟩)
        refine nm_r (e' := upd (upd a (p - 1) (sb_b (48 + w % 10))) (p - 1 - 1) (sb_b (48 + w / 10))) (by rw [e1, ew, nI_clamp (by omega), t2]) ?_
        rw [show nI (p - 1 - 1) = nI n from congrArg nI (by omega)]
        refine hP _ (fun j hj => by rw [pk_un (by omega), pk_un (by omega)]) (fun i hi => ?_)
        obtain rfl | rfl : i = 0 ∨ i = 1 := by omega
        · rw [Nat.sub_zero, pk_un (by omega), pk_us, Nat.pow_zero, Nat.div_one]
        · rw [pk_us, Nat.pow_one, d2]
    · obtain ⟨t1, t2⟩ := sb_tab (w % 100) (Nat.mod_lt _ (by decide))
      have hd := rx_dg100 (w := w) (by omega) hw
      have hd2 := (sb_dg_in (w / 100)).1
      have er : (nI (w % 100)).toNatClampNeg = w % 100 := nI_clamp (by omega)
      rw [show w % 100 % 10 = w % 10 by omega] at t1
      rw [show w % 100 / 10 = w / 10 % 10 by omega] at t2
      refine br_f (fun z => h100 ((rx_nlt (by decide) hw).mp (show -nI 100 < -nI w from z))) ⟨by decide, nm_r (rx_ndiv hw) (nm_r (rx_nrem w) (nm_r (sb_m1 (by omega)) ⟨vp_in_nI (by omega) (by decide), vp_in_nI (by omega) (by omega), ?_⟩))⟩
      refine nm_r (e' := upd a (p - 1) (sb_b (48 + w % 10))) (by rw [er, nI_clamp (by omega), t1]) (nm_r (sb_m1 (by omega)) ⟨vp_in_nI (by omega) (by decide), vp_in_nI (by omega) (by omega), ?_⟩)
      refine nm_r (e' := upd (upd a (p - 1) (sb_b (48 + w % 10))) (p - 1 - 1) (sb_b (48 + w / 10 % 10))) (by rw [er, nI_clamp (by omega), t2]) ?_
      refine ih (w / 100) (p - 1 - 1) _ (by omega) (by omega) (by omega) (by omega) (fun a' h1 h2 => ?_)
      refine hP a' (fun j hj => by rw [h1 j (by omega), pk_un (by omega), pk_un (by omega)]) (fun i hi => ?_)
      match i, hi with
      | 0, _ => rw [Nat.sub_zero, h1 _ (by omega), pk_un (by omega), pk_us, Nat.pow_zero, Nat.div_one]
      | 1, _ => rw [h1 _ (by omega), pk_us, Nat.pow_one]
      | k + 2, hi =>
        rw [show p - 1 - (k + 2) = p - 1 - 1 - 1 - k by omega, h2 k (by omega), Nat.div_div_eq_div_mul, show 100 * 10 ^ k = 10 ^ (k + 2) by rw [show k + 2 = k + 1 + 1 from rfl, Nat.pow_succ, Nat.pow_succ]; omega]
/-- the text: '-' where d is 1, then w's decimal digits -/
def rx_T (d w : Nat) : Nat → Nat := sb_cat (fun _ => 45) d (sb_dec w)
theorem rx_T_lo {d w j : Nat} (h : j < d) : rx_T d w j = 45 := sb_cat_lo h
theorem rx_T_hi {d w i : Nat} : rx_T d w (d + i) = 48 + w / 10 ^ (sb_dg w - 1 - i) % 10 := sb_cat_hi
/-- x is the int whose text is rx_T d w -/
def rx_X (x : Int32) (d w : Nat) : Prop := (d = 0 ∧ w < 2 ^ 31 ∧ x = nI w) ∨ (d = 1 ∧ 0 < w ∧ w ≤ 2 ^ 31 ∧ x = -nI w)
theorem rx_all (x : Int32) : ∃ d w, rx_X x d w := by
  by_cases h : x < 0
  · have h2 := Int32.lt_iff_toInt_lt.mp h
    have h0 : (0 : Int32).toInt = 0 := by decide
    have hx := Int32.le_toInt x
    refine ⟨1, (-x.toInt).toNat, Or.inr ⟨rfl, by omega, by omega, Int32.toInt_inj.mp ?_⟩⟩
    rw [rx_negT (by omega)]
    omega
  · obtain ⟨j, hj, e⟩ := nI_of h
    exact ⟨0, j, Or.inl ⟨rfl, hj, e⟩⟩
theorem rx_lat {d w : Nat} {a : Nat → Int32} (h0 : ∀ j, j < d → a j = sb_b 45) (h : ∀ i, i < sb_dg w → a (d + sb_dg w - 1 - i) = sb_b (48 + w / 10 ^ i % 10)) : sb_Lat (rx_T d w) (d + sb_dg w) a := by
  intro j hj
  by_cases e : j < d
  · rw [rx_T_lo e]
    exact ⟨by decide, h0 j e⟩
  · obtain ⟨i, rfl⟩ : ∃ i, j = d + i := ⟨j - d, by omega⟩
    have h9 := h (sb_dg w - 1 - i) (by omega)
    rw [show d + sb_dg w - 1 - (sb_dg w - 1 - i) = d + i by omega] at h9
    rw [rx_T_hi]
    exact ⟨by omega, h9⟩
theorem rx_neg0 {w : Nat} (h0 : 0 < w) (hw : w ≤ 2 ^ 31) : -nI w < 0 := by
  rw [Int32.lt_iff_toInt_lt, rx_negT hw, Int32.toInt_zero]
  omega
theorem rx_nge0 {w : Nat} (h0 : 0 < w) (hw : w ≤ 2 ^ 31) : ¬ 0 ≤ -nI w := by
  rw [Int32.le_iff_toInt_le, rx_negT hw, Int32.toInt_zero]
  omega
/-- Integer.stringSize -/
theorem rx_size {post : Int32 → Prop} {x : Int32} {d w : Nat} (hx : rx_X x d w) (hp : post (nI (d + sb_dg w))) : wpJ6_stringSize_0f7a4_565d2 post () x := by
  rw [Nat.add_comm] at hp
  rcases hx with ⟨rfl, hw, rfl⟩ | ⟨rfl, h0, hw, rfl⟩
  · exact br_f (nI_pos hw) (nm_e ⟨11, rx_sizeL (by omega) hp⟩)
  · exact br_t (rx_neg0 h0 hw) ⟨11, rx_sizeL hw hp⟩
/-- Integer.getChars into a new array -/
theorem rx_chars {P : Int32 → StJf0261 → Prop} {x : Int32} {d w : Nat} (hx : rx_X x d w) (hp : ∀ a, sb_Lat (rx_T d w) (d + sb_dg w) a → P (nI 0) (a, d + sb_dg w)) : wpJ6_getChars_ba4f3_543e4 P ((fun _ => 0), d + sb_dg w) x (nI (d + sb_dg w)) := by
  have hd := sb_dg_in w
  rcases hx with ⟨rfl, hw, rfl⟩ | ⟨rfl, h0, hw, rfl⟩
  · refine br_t (nI_pos' hw) (br_t rfl (nm_e ⟨w + 1, ?_⟩))
    refine rx_getChars (n := 0) (by omega) (w + 1) w _ _ (by omega) (by omega) rfl (by omega) (fun a h1 h2 => br_t rfl ?_)
    exact hp a (rx_lat (fun j hj => absurd hj (Nat.not_lt_zero j)) h2)
  · refine br_f (rx_nge0 h0 hw) (br_f (by decide) ⟨w + 1, ?_⟩)
    refine rx_getChars (n := 1) (by omega) (w + 1) w _ _ (by omega) hw rfl (by omega) (fun a h1 h2 => br_f (by decide) (nm_r (e' := nI 0) (by decide) ⟨vp_in_nI (by omega) (by omega), ?_⟩))
    refine nm_r (e' := upd a 0 (sb_b 45)) (by rw [nI_clamp (by omega)]; exact congrArg (upd a 0) (by decide)) (hp _ (rx_lat (fun j hj => ?_) (fun i hi => ?_)))
    · obtain rfl : j = 0 := by omega
      exact pk_us
    · rw [pk_un (by omega)]
      exact h2 i hi
/-- Integer.toString -/
theorem rx_toString {post : StJd4992 → Prop} {mc ms : Nat} {x : Int32} {d w : Nat} (hx : rx_X x d w) (hmc : 2 ≤ mc) (hms : d + sb_dg w + 4 ≤ ms)
    (hp : ∀ a, sb_Lat (rx_T d w) (d + sb_dg w) a → post (0, 0, 0, a, d + sb_dg w)) : wpJ6_toString_b52d3_565d2 post mc ms () x := by
  have hd := sb_dg_in w
  have hd1 : d ≤ 1 := by rcases hx with h | h <;> omega
  refine rx_size hx ⟨nI_pos (by omega), nm_r (nI_clamp (by omega)) ⟨by omega, by omega, by omega, ?_⟩⟩
  exact rx_chars hx (fun a ha => ⟨hmc, by omega, by decide, by decide, hp a ha⟩)
end
section
/-! RadixTextsPlain.write (x, 10): the same text; then the law -/
theorem rx_dg_hi {w : Nat} (hw : w ≤ 2 ^ 31) : w < 10 ^ sb_dg w := by
  unfold sb_dg
  (repeat' split) <;> omega
theorem rx_dg_lo {w i : Nat} (h : i + 1 < sb_dg w) : 10 ^ (i + 1) ≤ w := by
  have hd := sb_dg_in w
  have h1 : 10 ^ (i + 1) ≤ 10 ^ (sb_dg w - 1) := Nat.pow_le_pow_right (by decide) (by omega)
  refine Nat.le_trans h1 ?_
  have h2 : 1 < sb_dg w := by omega
  clear h1 h hd
  unfold sb_dg at h2 ⊢
  revert h2
  (repeat' split) <;> intro h2 <;> omega
theorem rx_10 : (10 : Int32).toInt64 = lN 10 := by decide
theorem rx_10n : ¬ (10 : Int32).toInt64 = 0 := by decide
theorem rx_p {k : Nat} (h : k ≤ 10) : 10 ^ k ≤ 10000000000 := Nat.le_trans (Nat.pow_le_pow_right (by decide) h) (by decide)
/-- RadixTextsPlain.sign of a decimal digit -/
theorem rx_sign {P : Int32 → Prop} {v : Nat} (hv : v < 10) (hp : P (nI (48 + v))) : wpX1_sign P () (nI v) := by
  refine br_f (nI_ge (b := 10) hv (by decide)) (sb_at (P := P) ?_ hp)
  rw [show (48 : Int32) + nI v = nI (48 + v) from nI_add 48 v]
  exact (sb_byte _ (by omega)).2.1
/-- the second loop: r digits are wanting -/
theorem rx_w50 {post : St1 → Prop} {mc ms : Nat} {ml : Int32} {d w : Nat} (hd1 : d ≤ 1) (hw : w ≤ 2 ^ 31)
    (hp : ∀ a, sb_Lat (rx_T d w) (d + sb_dg w) a → post (0, 0, 0, a, d + sb_dg w)) :
    ∀ (r i u kc ks : Nat) (a : Nat → Int32), i + r = sb_dg w → u = 10 ^ r / 10 → kc + 2 ≤ mc → ks + 15 ≤ ms → sb_Lat (rx_T d w) (d + i) a → sb_Fit a →
    wX1_write_50 post mc ms 10 (lN w) (r + 1) (lN u) kc ks 0 ml (nI (d + i)) a 16 := by
  have hd := sb_dg_in w
  intro r
  induction r with
  | zero =>
    intro i u kc ks a hi hu hmc hms hL hf
    obtain rfl : i = sb_dg w := by omega
    obtain rfl : u = 0 := by rw [hu]
    rw [wX1_write_50]
    exact br_t (by decide) ⟨2, 15, by omega, by omega, sb_toString (by omega) (by omega) hL hf (by omega) (by omega) (fun a' h1 _ => hp a' h1)⟩
  | succ r ih =>
    intro i u kc ks a hi hu hmc hms hL hf
    have hu2 : u = 10 ^ r := by rw [hu, Nat.pow_succ, Nat.mul_div_cancel _ (by decide)]
    have hu0 : 0 < u := by rw [hu2]; exact Nat.pow_pos (by decide)
    have hul : u ≤ 10000000000 := by rw [hu2]; exact rx_p (by omega)
    clear hu
    have hq : w / u < 2 ^ 63 := Nat.lt_of_le_of_lt (Nat.div_le_self w u) (by omega)
    have ev : ((lN w / lN u) - (lN w / lN u) / (10 : Int32).toInt64 * (10 : Int32).toInt64).toInt32 = nI (w / u % 10) := by
      rw [rx_10, pk_lDiv (by omega) hu0 (by omega), pk_lRem hq (by decide) (by decide), lN_i]
    rw [wX1_write_50]
    refine br_f (fun z => ?_) ⟨fun z => ?_, rx_10n, ?_⟩
    · have := (pk_lLE (a := u) (b := 0) (by omega) (by omega)).mp z
      omega
    · have := (pk_lEQ (a := u) (b := 0) (by omega) (by omega)).mp z
      omega
    rw [ev]
    have hv : w / u % 10 < 10 := Nat.mod_lt _ (by decide)
    refine rx_sign hv ⟨0, 0, by omega, by omega, ?_⟩
    refine sb_appendChar (by omega) (by omega) hL hf (by omega) (Or.inl (by omega)) (fun a' h1 h2 => ?_)
    rw [show sb_cap (d + i + 1) 16 = 16 from if_pos (by omega)]
    refine ⟨rx_10n, nm_r (e' := lN (u / 10)) (by rw [rx_10]; exact pk_lDiv (by omega) (by decide) (by decide)) ?_⟩
    refine ih (i + 1) (u / 10) (kc + 0) (ks + 0) a' (by omega) (by rw [hu2]) (by omega) (by omega) (fun j hj => ?_) h2
    have h3 := h1 j hj
    have h4 : sb_cat (rx_T d w) (d + i) (fun _ => 48 + w / u % 10) j = rx_T d w j := by
      by_cases e : j < d + i
      · exact sb_cat_lo e
      · obtain rfl : j = d + i := by omega
        rw [rx_T_hi, show sb_dg w - 1 - i = r by omega, ← hu2]
        exact sb_cat_hi (j := 0)
    rw [h4] at h3
    exact h3
/-- the first loop -/
theorem rx_w30 {post : St1 → Prop} {mc ms kc ks : Nat} {ml : Int32} {d w : Nat} {a : Nat → Int32} (hd1 : d ≤ 1) (hw : w ≤ 2 ^ 31)
    (hp : ∀ a, sb_Lat (rx_T d w) (d + sb_dg w) a → post (0, 0, 0, a, d + sb_dg w)) (hmc : kc + 2 ≤ mc) (hms : ks + 15 ≤ ms) (hL : sb_Lat (rx_T d w) d a) (hf : sb_Fit a) :
    ∃ fu, wX1_write_30 post mc ms 10 (lN w) kc ks 0 ml (nI d) a 16 fu 1 := by
  have hd := sb_dg_in w
  have em : ∀ i, lN (10 ^ i) * (10 : Int32).toInt64 = lN (10 ^ (i + 1)) := fun i => by rw [rx_10, lN_mul, Nat.pow_succ]
  refine pk_loop (σ := Unit) (fun n i _ => wX1_write_30 post mc ms 10 (lN w) kc ks 0 ml (nI d) a 16 n (lN (10 ^ i))) (fun _ _ => True) (sb_dg w - 1) 0 () (by omega) trivial (fun n _ _ => ?_) (fun n i _ hi _ hwi => ?_)
  · show wX1_write_30 post mc ms 10 (lN w) kc ks 0 ml (nI d) a 16 (n + 1) (lN (10 ^ (sb_dg w - 1)))
    rw [wX1_write_30]
    dsimp only
    rw [em, show sb_dg w - 1 + 1 = sb_dg w by omega]
    have hh := rx_dg_hi hw
    have hb := rx_p hd.2
    refine br_t ((pk_lLT (by omega) (by omega)).mpr hh) ⟨sb_dg w + 1, ?_⟩
    refine rx_w50 (i := 0) hd1 hw hp (sb_dg w) _ kc ks a (by omega) ?_ hmc hms hL hf
    obtain ⟨k, hk⟩ : ∃ k, sb_dg w = k + 1 := ⟨sb_dg w - 1, by omega⟩
    rw [hk, Nat.pow_succ, Nat.mul_div_cancel _ (by decide), Nat.add_sub_cancel]
  · show wX1_write_30 post mc ms 10 (lN w) kc ks 0 ml (nI d) a 16 (n + 1) (lN (10 ^ i))
    rw [wX1_write_30]
    dsimp only
    rw [em]
    have hl := rx_dg_lo (w := w) (i := i) (by omega)
    refine br_f (fun z => ?_) (nm_e (hwi () trivial))
    have := (pk_lLT (by omega) (by omega)).mp z
    omega
theorem rx_l0 {w : Nat} (hw : w < 2 ^ 31) : 0 ≤ (nI w).toInt64 := by
  rw [nI_l hw]
  exact (pk_lLE (a := 0) (b := w) (by omega) (by omega)).mpr (by omega)
theorem rx_l1 {w : Nat} (h0 : 0 < w) (hw : w ≤ 2 ^ 31) : ¬ 0 ≤ (-nI w).toInt64 := by
  rw [Int64.le_iff_toInt_le, Int32.toInt_toInt64, rx_negT hw, Int64.toInt_zero]
  omega
theorem rx_l2 {w : Nat} (hw : w ≤ 2 ^ 31) : -(-nI w).toInt64 = lN w := by
  apply Int64.toInt_inj.mp
  rw [Int64.toInt_neg, Int32.toInt_toInt64, rx_negT hw, pk_lT (by omega), Int.neg_neg]
  exact Int.bmod_eq_of_le (by omega) (by omega)
/-- RadixTextsPlain.write in base ten -/
theorem rx_write {post : St1 → Prop} {mc ms : Nat} {x : Int32} {d w : Nat} (hx : rx_X x d w) (hmc : 4 ≤ mc) (hms : 35 ≤ ms)
    (hp : ∀ a, sb_Lat (rx_T d w) (d + sb_dg w) a → post (0, 0, 0, a, d + sb_dg w)) : wpX1_write post mc ms () x 10 := by
  refine ⟨by omega, by omega, 1, 16, by omega, by omega, 1, 16, by omega, by omega, by decide, nm_r (e' := 16) (by decide) ⟨by omega, by omega, by omega, ?_⟩⟩
  rcases hx with ⟨rfl, hw, rfl⟩ | ⟨rfl, h0, hw, rfl⟩
  · refine br_t (rx_l0 hw) ?_
    rw [nI_l hw]
    exact rx_w30 (d := 0) (by omega) (by omega) hp (by omega) (by omega) (fun j hj => absurd hj (Nat.not_lt_zero j)) sb_fit0
  · refine br_f (rx_l1 h0 hw) ⟨0, 0, by omega, by omega, ?_⟩
    refine sb_appendChar (t := fun _ => 45) (n := 0) (c := 45) (by omega) (by omega) (fun j hj => absurd hj (Nat.not_lt_zero j)) sb_fit0 (by omega) (Or.inl (by omega)) (fun a' h1 h2 => ?_)
    rw [show sb_cap (0 + 1) 16 = 16 from if_pos (by omega)]
    refine nm_r (rx_l2 hw) (rx_w30 (d := 1) (by omega) hw hp (by omega) (by omega) (fun j hj => ?_) h2)
    have h3 := h1 j (by omega)
    obtain rfl : j = 0 := by omega
    exact h3
theorem rx_lawOf {post : Int32 → St0 → Prop} (p0 p1 : Int32) (hp : post 1 ()) : wpL_lawOf post 11 168 () p0 p1 := by
  refine nm_e ?_
  obtain ⟨d, w, hx⟩ := rx_all (p0 >>> ((p1 &&& 31) &&& 31))
  have hd := sb_dg_in w
  have hd1 : d ≤ 1 := by rcases hx with h | h <;> omega
  refine ⟨2, 15, by omega, by omega, 2, 15, by omega, by omega, rx_toString hx (by omega) (by omega) (fun a ha => ?_)⟩
  refine ⟨4, 35, by omega, by omega, 4, 35, by omega, by omega, rx_write hx (by omega) (by omega) (fun b hb => ?_)⟩
  exact sv_equals (by omega) (fun j hj => by rw [(ha j hj).2, (hb j hj).2]) ⟨by decide, hp⟩
theorem rx_cell {post : Int32 → Prop} {L k : Nat} {xs : Nat → Int32} (hL : L ≤ 2) (hk : k < 2) (hp : ∀ r, post r) : wpL_cellAt post L xs () (nI k) :=
  pk_le L k (fun _ => hp _) (fun z => ⟨pk_in k L z, hp _⟩)
theorem i_vc (xs : Nat → Int32) (L : Nat) (hL : L ≤ 2) : wpL_law (fun r => r = 1) L xs :=
  rx_cell (k := 0) hL (by omega) (fun _ => rx_cell (k := 1) hL (by omega) (fun _ => ⟨11, 168, by omega, by omega, rx_lawOf _ _ rfl⟩))
end
