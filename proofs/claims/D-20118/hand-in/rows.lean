section
/-! the laws of StringBuilder, String and Integer that are used here: rows of the starting text STRINGBUILDER-LAWS.1 -/
theorem sb_copyOf {post : StJefc9b → Prop} {mc ms : Nat} {a : Nat → Int32} {m q : Nat} (h : m < q) (hq : q ≤ 65536) (hf : sb_Fit a) (hmc : 1 ≤ mc) (hms : q ≤ ms)
    (hp : post (a, m, va_cpy a (fun _ => 0) 0 0 m, q)) : wpJ7_copyOf_9075b_9260e post mc ms (a, m) (nI q) := by
  have ei : (if nI q < Int32.ofNat m then nI q else Int32.ofNat m) = nI m := if_neg (nI_nlt (by omega) (by omega))
  have ec : (nI m).toNatClampNeg = m := nI_clamp (by omega)
  refine br_f (fun z => by have := (nI_eq (by omega) (by omega)).mp (show nI q = nI m from z); omega) ⟨nI_pos (by omega), nm_r (nI_clamp (by omega)) ⟨by omega, hmc, by omega, ?_⟩⟩
  rw [ei, ec, sb_cl0]
  exact ⟨by decide, by decide, nI_pos (by omega), by omega, by omega, fun i _ => hf _, nm_e hp⟩
theorem sb_ensure {post : StJ4ec0e → Prop} {mc ms : Nat} {ml z : Int32} {a : Nat → Int32} {m q : Nat} (hm : m ≤ 65536) (hq : q < 2 ^ 28) (hf : sb_Fit a) (hr : sb_Room q m mc ms)
    (hp : ∀ a', sb_Fit a' → (∀ j, j < m → a' j = a j) → post (0, ml, z, a', sb_cap q m)) : wpJ5_ensureCapacityInternal_d00df_b0715 post mc ms (0, ml, z, a, m) (nI q) := by
  have e1 : (nI q - Int32.ofNat m).toInt = (q : Int) - m := pk_sub_toInt (by omega) (by omega)
  refine nm_r (sb_shr0 (Int32.ofNat m)) ?_
  by_cases h : q ≤ m
  · refine br_t (by rw [Int32.le_iff_toInt_le, e1, Int32.toInt_zero]; omega) ?_
    have h9 := hp a hf (fun _ _ => rfl)
    rw [sb_cap, if_pos h] at h9
    exact h9
  · have hr' : 1 ≤ mc ∧ sb_cap q m ≤ ms ∧ sb_cap q m ≤ 65536 := hr.resolve_left h
    have hc : sb_cap q m = m + (if q - m < m + 2 then m + 2 else q - m) := by
      unfold sb_cap
      rw [if_neg h]
      split <;> split <;> omega
    have hg := sb_cap_ge q m
    refine br_f (fun hc => h (by rw [Int32.le_iff_toInt_le, e1, Int32.toInt_zero] at hc; omega)) ?_
    have e2 : Int32.ofNat m + ((2 : Int32) <<< ((0 : Int32) &&& 31)) = nI (m + 2) := by
      rw [sb_shl0]
      exact nI_add m 2
    have e3 : Int32.ofNat m + (if nI (q - m) < nI (m + 2) then nI (m + 2) else nI (q - m)) = nI (sb_cap q m) := by
      rw [hc]
      by_cases h2 : q - m < m + 2
      · rw [if_pos h2, if_pos (nI_lt h2 (by omega))]
        exact nI_add m (m + 2)
      · rw [if_neg h2, if_neg (nI_nlt (by omega) (by omega))]
        exact nI_add m (q - m)
    refine nm_e (nm_r (sb_shl0 (nI q)) (nm_r (show nI q - nI m = nI (q - m) from pk_sub (by omega)) ?_))
    rw [e2]
    refine nm_r e3 (br_f (nI_nle (by omega) (by omega)) (br_f (show ¬ nI 2147483639 < nI (sb_cap q m) from nI_nlt (by omega) (by decide)) ?_))
    refine br_f (fun z9 => by have := (nI_eq (by omega) (by decide)).mp (show nI (sb_cap q m) = nI 2147483647 from z9); omega) ?_
    rw [sb_shr0]
    refine ⟨mc, ms, by omega, by omega, ?_⟩
    rw [sb_shl0]
    exact sb_copyOf (by omega) hr'.2.2 hf hr'.1 hr'.2.1 (hp _ (sb_fitC hf sb_fit0) (fun j hj => sb_cpy0 hj))
theorem sb_appendChar {post : StJ4ec0e → Prop} {mc ms : Nat} {ml : Int32} {t : Nat → Nat} {a : Nat → Int32} {n m c : Nat} (hnm : n ≤ m) (hm : m ≤ 65536) (hL : sb_Lat t n a) (hf : sb_Fit a) (hc : c < 256) (hr : sb_Room (n + 1) m mc ms)
    (hp : ∀ a', sb_Lat (sb_cat t n (fun _ => c)) (n + 1) a' → sb_Fit a' → post (0, ml, nI (n + 1), a', sb_cap (n + 1) m)) : wpJ4_append_cf468_b0715 post mc ms (0, ml, nI n, a, m) (nI c) := by
  have hg := sb_cap_ge (n + 1) m
  have hl := sb_cap_le hm hr
  refine ⟨mc, ms, by omega, by omega, mc, ms, by omega, by omega, ?_⟩
  rw [nI_1]
  refine sb_ensure hm (by omega) hf hr (fun a' hf' hk => ?_)
  refine br_t rfl (br_f (by decide) ?_)
  refine br_f (show ¬ nI 255 < nI c from nI_nlt (by omega) (by decide)) (br_f (by decide) ?_)
  refine nm_r (nI_1 n) ⟨vp_in_nI (by omega) (by omega), nm_r (e' := upd a' n (sb_b c)) (by rw [nI_clamp (by omega), pk_vb]; rfl) ?_⟩
  refine hp _ (sb_latPut hL (fun j hj => ?_) (fun i hi => ?_)) (sb_fitU hf' (sb_fitB c))
  · rw [pk_un (by omega)]
    exact hk j (by omega)
  · obtain rfl : i = 0 := by omega
    exact ⟨hc, pk_us⟩
theorem sb_copyRange {post : StJefc9b → Prop} {mc ms : Nat} {a : Nat → Int32} {n m : Nat} (hnm : n ≤ m) (hm : m ≤ 65536) (hf : sb_Fit a) (hmc : 1 ≤ mc) (hms : n ≤ ms)
    (hp : ∀ a', sb_Fit a' → (∀ j, j < n → a' j = a j) → post (a, m, a', n)) : wpJ7_copyOfRange_39247_f5dda post mc ms (a, m) 0 (nI n) := by
  refine br_t rfl (pk_eq n m (fun e => ?_) (fun e => ?_))
  · subst e
    exact ⟨fun i _ => hf i, hmc, by omega, hp a hf (fun _ _ => rfl)⟩
  · have ei : (if nI n < (Int32.ofNat m - 0) then nI n else (Int32.ofNat m - 0)) = nI n := by
      rw [show Int32.ofNat m - 0 = nI m from pk_sub (a := m) (b := 0) (by omega)]
      exact if_pos (nI_lt (by omega) (by omega))
    refine ⟨mc, ms, by omega, by omega, br_t (nI_pos' (by omega)) (nm_r (e' := nI n) (pk_sub (a := n) (b := 0) (by omega)) ⟨nI_pos (by omega), nm_r (nI_clamp (by omega)) ⟨by omega, hmc, by omega, ?_⟩⟩)⟩
    rw [ei, nI_clamp (n := n) (by omega), sb_cl0]
    exact ⟨by decide, by decide, nI_pos (by omega), by omega, by omega, fun i _ => hf _, nm_e (hp _ (sb_fitC hf sb_fit0) (fun j hj => sb_cpy0 hj))⟩
theorem sb_toString {post : StJ9c5ae → Prop} {mc ms : Nat} {ml : Int32} {t : Nat → Nat} {a : Nat → Int32} {n m : Nat} (hnm : n ≤ m) (hm : m ≤ 65536) (hL : sb_Lat t n a) (hf : sb_Fit a) (hmc : 2 ≤ mc) (hms : n + 4 ≤ ms)
    (hp : ∀ a', sb_Lat t n a' → sb_Fit a' → post (0, ml, nI n, a, m, 0, 0, 0, a', n)) : wpJ4_toString_0e30d_76c3d post mc ms (0, ml, nI n, a, m) := by
  refine ⟨by omega, by omega, mc - 1, ms - 4, by omega, by omega, mc - 1, ms - 4, by omega, by omega, br_t rfl (br_f (by decide) ⟨mc - 1, ms - 4, by omega, by omega, ?_⟩)⟩
  exact sb_copyRange hnm hm hf (by omega) (by omega) (fun a' hf' hk => hp a' (sb_latKeep hL hk) hf')
theorem sv_equals {post : Int32 → Prop} {h z h' z' : Int32} {a a' : Nat → Int32} {n : Nat} (hn : n ≤ 65536) (he : ∀ j, j < n → a j = a' j) (hp : post 1) : wpJ0_equals_9ea2d_d3b40 post (0, h, z, a, n, 0, h', z', a', n) := by
  have L : ∀ (P : Int32 → Prop), P 1 → ∀ (d k : Nat), k + d = n → wJ1_equals_b5fdf_9f0d2_9 P a n a' n (d + 1) (nI k) := by
    intro P h1 d
    induction d with
    | zero =>
      intro k hk
      rw [wJ1_equals_b5fdf_9f0d2_9]
      exact br_t ((nI_leI (by omega) (by omega)).mpr (by omega)) h1
    | succ d ih =>
      intro k hk
      rw [wJ1_equals_b5fdf_9f0d2_9]
      refine br_f (nI_ge (by omega) (by omega)) ⟨vp_in_nI (by omega) (by omega), vp_in_nI (by omega) (by omega), br_t ?_ (nm_r (nI_1 k) (ih (k + 1) (by omega)))⟩
      rw [nI_clamp (by omega)]
      exact he k (by omega)
  exact br_t rfl (br_t rfl ⟨n + 1, L _ (br_f (by decide) hp) n 0 (by omega)⟩)
theorem sb_stringSize {post : Int32 → Prop} {v : Nat} (hv : v < 2 ^ 31) (hp : post (nI (sb_dg v))) : wpJ6_stringSize_0f7a4_565d2 post () (nI v) := by
  have hs : ∀ i, sb_dg v = i → post (nI i) := fun i e => e ▸ hp
  refine br_f (nI_pos hv) (nm_e ⟨11, ?_⟩)
  rw [wJ6_stringSize_0f7a4_565d2_16]
  refine br_f (by decide) (sb_cmp v 10 (fun h1 => ?_) (fun h => sb_at (P := post) (by decide) (hs 1 (by unfold sb_dg; (repeat' split) <;> omega))) hv)
  refine nm_r (e' := -100) (by decide) (nm_r (e' := 2) (by decide) ?_)
  rw [wJ6_stringSize_0f7a4_565d2_16]
  refine br_f (by decide) (sb_cmp v 100 (fun h2 => ?_) (fun h => sb_at (P := post) (by decide) (hs 2 (by unfold sb_dg; (repeat' split) <;> omega))) hv)
  refine nm_r (e' := -1000) (by decide) (nm_r (e' := 3) (by decide) ?_)
  rw [wJ6_stringSize_0f7a4_565d2_16]
  refine br_f (by decide) (sb_cmp v 1000 (fun h3 => ?_) (fun h => sb_at (P := post) (by decide) (hs 3 (by unfold sb_dg; (repeat' split) <;> omega))) hv)
  refine nm_r (e' := -10000) (by decide) (nm_r (e' := 4) (by decide) ?_)
  rw [wJ6_stringSize_0f7a4_565d2_16]
  refine br_f (by decide) (sb_cmp v 10000 (fun h4 => ?_) (fun h => sb_at (P := post) (by decide) (hs 4 (by unfold sb_dg; (repeat' split) <;> omega))) hv)
  refine nm_r (e' := -100000) (by decide) (nm_r (e' := 5) (by decide) ?_)
  rw [wJ6_stringSize_0f7a4_565d2_16]
  refine br_f (by decide) (sb_cmp v 100000 (fun h5 => ?_) (fun h => sb_at (P := post) (by decide) (hs 5 (by unfold sb_dg; (repeat' split) <;> omega))) hv)
  refine nm_r (e' := -1000000) (by decide) (nm_r (e' := 6) (by decide) ?_)
  rw [wJ6_stringSize_0f7a4_565d2_16]
  refine br_f (by decide) (sb_cmp v 1000000 (fun h6 => ?_) (fun h => sb_at (P := post) (by decide) (hs 6 (by unfold sb_dg; (repeat' split) <;> omega))) hv)
  refine nm_r (e' := -10000000) (by decide) (nm_r (e' := 7) (by decide) ?_)
  rw [wJ6_stringSize_0f7a4_565d2_16]
  refine br_f (by decide) (sb_cmp v 10000000 (fun h7 => ?_) (fun h => sb_at (P := post) (by decide) (hs 7 (by unfold sb_dg; (repeat' split) <;> omega))) hv)
  refine nm_r (e' := -100000000) (by decide) (nm_r (e' := 8) (by decide) ?_)
  rw [wJ6_stringSize_0f7a4_565d2_16]
  refine br_f (by decide) (sb_cmp v 100000000 (fun h8 => ?_) (fun h => sb_at (P := post) (by decide) (hs 8 (by unfold sb_dg; (repeat' split) <;> omega))) hv)
  refine nm_r (e' := -1000000000) (by decide) (nm_r (e' := 9) (by decide) ?_)
  rw [wJ6_stringSize_0f7a4_565d2_16]
  refine br_f (by decide) (sb_cmp v 1000000000 (fun h9 => ?_) (fun h => sb_at (P := post) (by decide) (hs 9 (by unfold sb_dg; (repeat' split) <;> omega))) hv)
  refine nm_e (nm_r (e' := 10) (by decide) ?_)
  rw [wJ6_stringSize_0f7a4_565d2_16]
  exact br_t (by decide) (sb_at (P := post) (by decide) (hs 10 (by unfold sb_dg; (repeat' split) <;> omega)))
theorem sb_tab : ∀ k, k < 100 → vp_nar .byte (tabJ4c4d6.getD k 0) = sb_b (48 + k % 10) ∧ vp_nar .byte (tabJe9b5b.getD k 0) = sb_b (48 + k / 10) := by decide +kernel
theorem sb_getChars {P : Int32 → StJf0261 → Prop} {m n : Nat} (hm : m ≤ 65536) : ∀ (f w p : Nat) (a : Nat → Int32), w < f → w < 2 ^ 31 → p = n + sb_dg w → p ≤ m →
    (∀ a', (∀ j, j < n ∨ p ≤ j → a' j = a j) → (∀ i, i < sb_dg w → a' (p - 1 - i) = sb_b (48 + w / 10 ^ i % 10)) → (sb_Fit a → sb_Fit a') → P (nI n) (a', m)) →
    wJ6_getChars_ba4f3_543e4_22 P 0 m f (-nI w) (nI p) a := by
  intro f
  induction f with
  | zero =>
    intro w p a h
    omega
  | succ f ih =>
    intro w p a hwf hw hp hpm hP
    have hd1 := (sb_dg_in w).1
    have e1 : -(-nI w) = nI w := Int32.neg_neg
    have ew : (nI w).toNatClampNeg = w := nI_clamp hw
    rw [wJ6_getChars_ba4f3_543e4_22]
    by_cases h100 : w < 100
    · obtain ⟨t1, t2⟩ := sb_tab w h100
      refine br_t (show -nI 100 < -nI w from (sb_nlt (by decide) hw).mpr h100) (nm_r (sb_m1 (by omega)) ⟨by rw [e1]; exact vp_in_nI h100 (by decide), vp_in_nI (by omega) (by omega), ?_⟩)
      refine nm_r (e' := upd a (p - 1) (sb_b (48 + w % 10))) (by rw [e1, ew, nI_clamp (by omega), t1]) ?_
      by_cases h9 : w < 10
      · have hd : sb_dg w = 1 := if_pos h9
        refine br_t (show -nI 9 ≤ -nI w from (sb_nle (by decide) hw).mpr (by omega)) (br_t rfl ?_)
        rw [show nI (p - 1) = nI n from congrArg nI (by omega)]
        refine hP _ (fun j hj => pk_un (by omega)) (fun i hi => ?_) (fun hf => sb_fitU hf (sb_fitB _))
        obtain rfl : i = 0 := by omega
        rw [Nat.sub_zero, pk_us, Nat.pow_zero, Nat.div_one]
      · have hd : sb_dg w = 2 := by rw [sb_dg, if_neg h9, if_pos h100]
        have d2 : w / 10 % 10 = w / 10 := by omega
        refine br_f (fun z => by have := (sb_nle (by decide) hw).mp (show -nI 9 ≤ -nI w from z); omega) (nm_r (sb_m1 (by omega)) ⟨by rw [e1]; exact vp_in_nI h100 (by decide), vp_in_nI (by omega) (by omega), ?_⟩)
        refine nm_r (e' := upd (upd a (p - 1) (sb_b (48 + w % 10))) (p - 1 - 1) (sb_b (48 + w / 10))) (by rw [e1, ew, nI_clamp (by omega), t2]) (br_t rfl ?_)
        rw [show nI (p - 1 - 1) = nI n from congrArg nI (by omega)]
        refine hP _ (fun j hj => by rw [pk_un (by omega), pk_un (by omega)]) (fun i hi => ?_) (fun hf => sb_fitU (sb_fitU hf (sb_fitB _)) (sb_fitB _))
        obtain rfl | rfl : i = 0 ∨ i = 1 := by omega
        · rw [Nat.sub_zero, pk_un (by omega), pk_us, Nat.pow_zero, Nat.div_one]
        · rw [pk_us, Nat.pow_one, d2]
    · obtain ⟨t1, t2⟩ := sb_tab (w % 100) (Nat.mod_lt _ (by decide))
      have hd := sb_dg100 (w := w) (by omega) hw
      have hd2 := (sb_dg_in (w / 100)).1
      have er : (nI (w % 100)).toNatClampNeg = w % 100 := nI_clamp (by omega)
      rw [show w % 100 % 10 = w % 10 by omega] at t1
      rw [show w % 100 / 10 = w / 10 % 10 by omega] at t2
      refine br_f (fun z => h100 ((sb_nlt (by decide) hw).mp (show -nI 100 < -nI w from z))) ⟨by decide, nm_r (sb_ndiv hw) (nm_r (sb_nrem hw) (nm_r (sb_m1 (by omega)) ⟨vp_in_nI (by omega) (by decide), vp_in_nI (by omega) (by omega), ?_⟩))⟩
      refine nm_r (e' := upd a (p - 1) (sb_b (48 + w % 10))) (by rw [er, nI_clamp (by omega), t1]) (nm_r (sb_m1 (by omega)) ⟨vp_in_nI (by omega) (by decide), vp_in_nI (by omega) (by omega), ?_⟩)
      refine nm_r (e' := upd (upd a (p - 1) (sb_b (48 + w % 10))) (p - 1 - 1) (sb_b (48 + w / 10 % 10))) (by rw [er, nI_clamp (by omega), t2]) ?_
      refine ih (w / 100) (p - 1 - 1) _ (by omega) (by omega) (by omega) (by omega) (fun a' h1 h2 h3 => ?_)
      refine hP a' (fun j hj => by rw [h1 j (by omega), pk_un (by omega), pk_un (by omega)]) (fun i hi => ?_) (fun hf => h3 (sb_fitU (sb_fitU hf (sb_fitB _)) (sb_fitB _)))
      match i, hi with
      | 0, _ => rw [Nat.sub_zero, h1 _ (by omega), pk_un (by omega), pk_us, Nat.pow_zero, Nat.div_one]
      | 1, _ => rw [h1 _ (by omega), pk_us, Nat.pow_one]
      | k + 2, hi =>
        rw [show p - 1 - (k + 2) = p - 1 - 1 - 1 - k by omega, h2 k (by omega), Nat.div_div_eq_div_mul, show 100 * 10 ^ k = 10 ^ (k + 2) by rw [show k + 2 = k + 1 + 1 from rfl, Nat.pow_succ, Nat.pow_succ]; omega]
theorem sb_appendInt {post : StJ4ec0e → Prop} {mc ms : Nat} {ml : Int32} {t : Nat → Nat} {a : Nat → Int32} {n m v : Nat} (hnm : n ≤ m) (hm : m ≤ 65536) (hL : sb_Lat t n a) (hf : sb_Fit a) (hv : v < 2 ^ 31) (hr : sb_Room (n + sb_dg v) m mc ms)
    (hp : ∀ a', sb_Lat (sb_cat t n (sb_dec v)) (n + sb_dg v) a' → sb_Fit a' → post (0, ml, nI (n + sb_dg v), a', sb_cap (n + sb_dg v) m)) : wpJ4_append_bf812_b0715 post mc ms (0, ml, nI n, a, m) (nI v) := by
  have hd := sb_dg_in v
  have hg := sb_cap_ge (n + sb_dg v) m
  have hl := sb_cap_le hm hr
  refine ⟨mc, ms, by omega, by omega, ?_⟩
  refine sb_stringSize hv (nm_r (nI_add n (sb_dg v)) ⟨mc, ms, by omega, by omega, ?_⟩)
  refine sb_ensure hm (by omega) hf hr (fun a' hf' hk => ?_)
  refine br_t rfl (br_f (by decide) (br_t (nI_pos' hv) (br_t rfl (nm_e ⟨v + 1, ?_⟩))))
  refine sb_getChars (n := n) hl (v + 1) v _ a' (by omega) hv rfl hg (fun a2 h1 h2 h3 => ?_)
  refine hp a2 (sb_latPut hL (fun j hj => ?_) (fun i hi => ?_)) (h3 hf')
  · rw [h1 j (Or.inl hj)]
    exact hk j (by omega)
  · have h9 := h2 (sb_dg v - 1 - i) (by omega)
    rw [show n + sb_dg v - 1 - (sb_dg v - 1 - i) = n + i by omega] at h9
    exact ⟨by unfold sb_dec; omega, h9⟩
end
section
/-! texts as lists of letters; append(char) and append(int) of a StringBuilder with 16 places, over lists -/
/-- the decimal letters of a natural below 1000 -/
def sf_D (v : Nat) : List Nat := if v < 10 then [48 + v] else if v < 100 then [48 + v / 10, 48 + v % 10] else [48 + v / 100, 48 + v / 10 % 10, 48 + v % 10]
/-- the decimal letters of x are y -/
def sf_I (x : Int32) (y : List Nat) : Prop := (∃ v, v < 1000 ∧ x = nI v ∧ y = sf_D v) ∨ (∃ w, 0 < w ∧ w < 100 ∧ x = -nI w ∧ y = 45 :: sf_D w)
/-- the bytes a begin with the text l -/
def sf_T (l : List Nat) (a : Nat → Int32) : Prop := sb_Lat (fun j => l.getD j 0) l.length a ∧ sb_Fit a
theorem sf_T0 : sf_T [] (fun _ => 0) := ⟨fun j hj => absurd hj (Nat.not_lt_zero j), sb_fit0⟩
theorem sf_D1 {v : Nat} (h : v < 10) : sf_D v = [48 + v] := if_pos h
theorem sf_D2 {v : Nat} (h : 10 ≤ v) (h2 : v < 100) : sf_D v = [48 + v / 10, 48 + v % 10] := by
  unfold sf_D
  rw [if_neg (by omega), if_pos h2]
theorem sf_D3 {v : Nat} (h : 100 ≤ v) : sf_D v = [48 + v / 100, 48 + v / 10 % 10, 48 + v % 10] := by
  unfold sf_D
  rw [if_neg (by omega), if_neg (by omega)]
theorem sf_Dlen (v : Nat) : (sf_D v).length ≤ 3 := by
  unfold sf_D
  split
  · exact (by decide : 1 ≤ 3)
  · split
    · exact (by decide : 2 ≤ 3)
    · exact (by decide : 3 ≤ 3)
theorem sf_cat {l s : List Nat} {t : Nat → Nat} {j : Nat} (hj : j < l.length + s.length) (hs : ∀ i, i < s.length → t i = s.getD i 0) : sb_cat (fun i => l.getD i 0) l.length t j = (l ++ s).getD j 0 := by
  rw [List.getD_eq_getElem?_getD]
  by_cases c : j < l.length
  · rw [sb_cat_lo c, List.getElem?_append_left c, List.getD_eq_getElem?_getD]
  · obtain ⟨i, rfl⟩ : ∃ i, j = l.length + i := ⟨j - l.length, by omega⟩
    rw [sb_cat_hi, List.getElem?_append_right (by omega), hs i (by omega), List.getD_eq_getElem?_getD, Nat.add_sub_cancel_left]
theorem sf_put {l s : List Nat} {a' : Nat → Int32} {t : Nat → Nat} {w : Nat} (hw : w = s.length) (hs : ∀ i, i < s.length → t i = s.getD i 0) (h : sb_Lat (sb_cat (fun j => l.getD j 0) l.length t) (l.length + w) a') (hf : sb_Fit a') : sf_T (l ++ s) a' := by
  subst hw
  refine ⟨fun j hj => ?_, hf⟩
  rw [List.length_append] at hj
  have h9 := h j hj
  rw [sf_cat hj hs] at h9
  exact h9
/-- StringBuilder.append(char) -/
theorem sf_char {post : StJ4ec0e → Prop} {mc ms : Nat} {ml x : Int32} {l : List Nat} {a : Nat → Int32} {c : Nat} (hx : x = nI c) (hT : sf_T l a) (hc : c < 256) (hn : l.length + 1 ≤ 16)
    (hp : ∀ a', sf_T (l ++ [c]) a' → post (0, ml, nI (l ++ [c]).length, a', 16)) : wpJ4_append_cf468_b0715 post mc ms (0, ml, nI l.length, a, 16) x := by
  subst hx
  refine sb_appendChar (by omega) (by decide) hT.1 hT.2 hc (Or.inl hn) (fun a' h1 h2 => ?_)
  have e : sb_cap (l.length + 1) 16 = 16 := if_pos hn
  have h9 := hp a' (sf_put (s := [c]) rfl (fun i hi => by
    obtain rfl : i = 0 := Nat.lt_one_iff.mp hi
    rfl) h1 h2)
  rw [List.length_append] at h9
  rw [e]
  exact h9
theorem sf_dg {v : Nat} (hv : v < 1000) : sb_dg v = (sf_D v).length := by
  by_cases h : v < 10
  · rw [sf_D1 h, sb_dg, if_pos h]
    rfl
  · by_cases h2 : v < 100
    · rw [sf_D2 (by omega) h2, sb_dg, if_neg h, if_pos h2]
      rfl
    · rw [sf_D3 (by omega), sb_dg, if_neg h, if_neg h2, if_pos hv]
      rfl
theorem sf_dec {v : Nat} (hv : v < 1000) : ∀ i, i < (sf_D v).length → sb_dec v i = (sf_D v).getD i 0 := by
  intro i hi
  unfold sb_dec
  rw [sf_dg hv]
  by_cases h : v < 10
  · rw [sf_D1 h] at hi ⊢
    obtain rfl : i = 0 := Nat.lt_one_iff.mp hi
    show 48 + v / 1 % 10 = 48 + v
    omega
  · by_cases h2 : v < 100
    · rw [sf_D2 (by omega) h2] at hi ⊢
      have hi' : i < 2 := hi
      obtain rfl | rfl : i = 0 ∨ i = 1 := by omega
      · show 48 + v / 10 % 10 = 48 + v / 10
        omega
      · show 48 + v / 1 % 10 = 48 + v % 10
        omega
    · rw [sf_D3 (by omega)] at hi ⊢
      have hi' : i < 3 := hi
      obtain rfl | rfl | rfl : i = 0 ∨ i = 1 ∨ i = 2 := by omega
      · show 48 + v / 100 % 10 = 48 + v / 100
        omega
      · show 48 + v / 10 % 10 = 48 + v / 10 % 10
        omega
      · show 48 + v / 1 % 10 = 48 + v % 10
        omega
theorem sf_lt0 {w : Nat} (h0 : 0 < w) (hw : w < 2 ^ 31) : -nI w < 0 := by
  rw [Int32.lt_iff_toInt_lt, sb_negT hw, Int32.toInt_zero]
  omega
theorem sf_nle0 {w : Nat} (h0 : 0 < w) (hw : w < 2 ^ 31) : ¬ 0 ≤ -nI w := by
  rw [Int32.le_iff_toInt_le, sb_negT hw, Int32.toInt_zero]
  omega
/-- Integer.stringSize of a negative with one or two digits -/
theorem sf_size {post : Int32 → Prop} {w : Nat} (h0 : 0 < w) (hw : w < 100) (hp : post (nI (1 + (sf_D w).length))) : wpJ6_stringSize_0f7a4_565d2 post () (-nI w) := by
  refine br_t (sf_lt0 h0 (by omega)) ⟨3, ?_⟩
  rw [wJ6_stringSize_0f7a4_565d2_16]
  refine br_f (by decide) (sb_cmp w 10 (fun h1 => ?_) (fun h => ?_) (by omega))
  · refine nm_r (e' := -100) (by decide) (nm_r (e' := 2) (by decide) ?_)
    rw [wJ6_stringSize_0f7a4_565d2_16]
    refine br_f (by decide) (sb_cmp w 100 (fun h2 => absurd hw (by omega)) (fun h => sb_at (P := post) (y := nI 3) (by decide) ?_) (by omega))
    rw [sf_D2 h1 h] at hp
    exact hp
  · refine sb_at (P := post) (y := nI 2) (by decide) ?_
    rw [sf_D1 h] at hp
    exact hp
theorem sf_minus : vp_nar .byte 45 = sb_b 45 := by decide +kernel
/-- Integer.getChars of a negative with one or two digits, backwards to n -/
theorem sf_getN {P : Int32 → StJf0261 → Prop} {m n w : Nat} {a : Nat → Int32} (hm : m ≤ 65536) (h0 : 0 < w) (hw : w < 100) (hpm : n + (1 + (sf_D w).length) ≤ m)
    (hP : ∀ r a', (∀ j, j < n → a' j = a j) → (∀ i, i < (45 :: sf_D w).length → a' (n + i) = sb_b ((45 :: sf_D w).getD i 0)) → (sb_Fit a → sb_Fit a') → P r (a', m)) :
    wJ6_getChars_ba4f3_543e4_22 P 1 m 1 (-nI w) (nI (n + (1 + (sf_D w).length))) a := by
  have e1 : -(-nI w) = nI w := Int32.neg_neg
  have ew : (nI w).toNatClampNeg = w := nI_clamp (by omega)
  obtain ⟨t1, t2⟩ := sb_tab w hw
  rw [wJ6_getChars_ba4f3_543e4_22]
  by_cases h9 : w < 10
  · rw [sf_D1 h9] at hpm hP ⊢
    replace hpm : n + 2 ≤ m := hpm
    refine br_t (show -nI 100 < -nI w from (sb_nlt (by decide) (by omega)).mpr hw) (nm_r (e' := nI (n + 1)) (pk_m1 (n + 1)) ⟨by rw [e1]; exact vp_in_nI hw (by decide), vp_in_nI (by omega) (by omega), ?_⟩)
    refine nm_r (e' := upd a (n + 1) (sb_b (48 + w % 10))) (by rw [e1, ew, nI_clamp (by omega), t1]) ?_
    refine br_t (show -nI 9 ≤ -nI w from (sb_nle (by decide) (by omega)).mpr (by omega)) (br_f (by decide) (nm_r (e' := nI n) (pk_m1 n) ⟨vp_in_nI (by omega) (by omega), ?_⟩))
    refine nm_r (e' := upd (upd a (n + 1) (sb_b (48 + w % 10))) n (sb_b 45)) (by rw [nI_clamp (by omega), sf_minus]) ?_
    refine hP _ _ (fun j hj => by rw [pk_un (by omega), pk_un (by omega)]) (fun i hi => ?_) (fun hf => sb_fitU (sb_fitU hf (sb_fitB _)) (sb_fitB _))
    have hi' : i < 2 := hi
    obtain rfl | rfl : i = 0 ∨ i = 1 := by omega
    · exact pk_us
    · rw [pk_un (by omega), pk_us]
      exact congrArg sb_b (show 48 + w % 10 = 48 + w by omega)
  · rw [sf_D2 (by omega) hw] at hpm hP ⊢
    replace hpm : n + 3 ≤ m := hpm
    refine br_t (show -nI 100 < -nI w from (sb_nlt (by decide) (by omega)).mpr hw) (nm_r (e' := nI (n + 2)) (pk_m1 (n + 2)) ⟨by rw [e1]; exact vp_in_nI hw (by decide), vp_in_nI (by omega) (by omega), ?_⟩)
    refine nm_r (e' := upd a (n + 2) (sb_b (48 + w % 10))) (by rw [e1, ew, nI_clamp (by omega), t1]) ?_
    refine br_f (fun z => by have := (sb_nle (by decide) (by omega)).mp (show -nI 9 ≤ -nI w from z); omega) (nm_r (e' := nI (n + 1)) (pk_m1 (n + 1)) ⟨by rw [e1]; exact vp_in_nI hw (by decide), vp_in_nI (by omega) (by omega), ?_⟩)
    refine nm_r (e' := upd (upd a (n + 2) (sb_b (48 + w % 10))) (n + 1) (sb_b (48 + w / 10))) (by rw [e1, ew, nI_clamp (by omega), t2]) ?_
    refine br_f (by decide) (nm_r (e' := nI n) (pk_m1 n) ⟨vp_in_nI (by omega) (by omega), ?_⟩)
    refine nm_r (e' := upd (upd (upd a (n + 2) (sb_b (48 + w % 10))) (n + 1) (sb_b (48 + w / 10))) n (sb_b 45)) (by rw [nI_clamp (by omega), sf_minus]) ?_
    refine hP _ _ (fun j hj => by rw [pk_un (by omega), pk_un (by omega), pk_un (by omega)]) (fun i hi => ?_) (fun hf => sb_fitU (sb_fitU (sb_fitU hf (sb_fitB _)) (sb_fitB _)) (sb_fitB _))
    have hi' : i < 3 := hi
    obtain rfl | rfl | rfl : i = 0 ∨ i = 1 ∨ i = 2 := by omega
    · exact pk_us
    · rw [pk_un (by omega), pk_us]
      rfl
    · rw [pk_un (by omega), pk_un (by omega), pk_us]
      rfl
theorem sf_letters {w : Nat} (hw : w < 100) : ∀ i, i < (45 :: sf_D w).length → (45 :: sf_D w).getD i 0 < 256 := by
  intro i hi
  by_cases h9 : w < 10
  · rw [sf_D1 h9] at hi ⊢
    have hi' : i < 2 := hi
    obtain rfl | rfl : i = 0 ∨ i = 1 := by omega
    · exact (by decide : 45 < 256)
    · show 48 + w < 256
      omega
  · rw [sf_D2 (by omega) hw] at hi ⊢
    have hi' : i < 3 := hi
    obtain rfl | rfl | rfl : i = 0 ∨ i = 1 ∨ i = 2 := by omega
    · exact (by decide : 45 < 256)
    · show 48 + w / 10 < 256
      omega
    · show 48 + w % 10 < 256
      omega
/-- StringBuilder.append(int) of a negative with one or two digits -/
theorem sf_neg {post : StJ4ec0e → Prop} {mc ms : Nat} {ml : Int32} {l : List Nat} {a : Nat → Int32} {w : Nat} (hT : sf_T l a) (h0 : 0 < w) (hw : w < 100) (hn : l.length + (1 + (sf_D w).length) ≤ 16)
    (hp : ∀ a', sf_T (l ++ 45 :: sf_D w) a' → post (0, ml, nI (l ++ 45 :: sf_D w).length, a', 16)) : wpJ4_append_bf812_b0715 post mc ms (0, ml, nI l.length, a, 16) (-nI w) := by
  refine ⟨mc, ms, by omega, by omega, ?_⟩
  refine sf_size h0 hw (nm_r (nI_add l.length (1 + (sf_D w).length)) ⟨mc, ms, by omega, by omega, ?_⟩)
  refine sb_ensure (by decide) (by omega) hT.2 (Or.inl hn) (fun a' hf' hk => ?_)
  have e : sb_cap (l.length + (1 + (sf_D w).length)) 16 = 16 := if_pos hn
  rw [e]
  refine br_t rfl (br_f (by decide) (br_f (sf_nle0 h0 (by omega)) (br_f (by decide) ⟨1, ?_⟩)))
  refine sf_getN (by decide) h0 hw hn (fun r a2 h1 h2 h3 => ?_)
  have h8 := sf_put (l := l) (s := 45 :: sf_D w) (t := fun i => (45 :: sf_D w).getD i 0) rfl (fun _ _ => rfl) (sb_latPut hT.1 (fun j hj => by rw [h1 j hj]; exact hk j (by omega)) (fun i hi => ⟨sf_letters hw i hi, h2 i hi⟩)) (h3 hf')
  have h9 := hp a2 h8
  rw [List.length_append, List.length_cons, Nat.add_comm (sf_D w).length 1] at h9
  exact h9
/-- StringBuilder.append(int) -/
theorem sf_int {post : StJ4ec0e → Prop} {mc ms : Nat} {ml x : Int32} {l y : List Nat} {a : Nat → Int32} (hx : sf_I x y) (hT : sf_T l a) (hn : l.length + y.length ≤ 16)
    (hp : ∀ a', sf_T (l ++ y) a' → post (0, ml, nI (l ++ y).length, a', 16)) : wpJ4_append_bf812_b0715 post mc ms (0, ml, nI l.length, a, 16) x := by
  rcases hx with ⟨v, hv, rfl, rfl⟩ | ⟨w, h0, hw, rfl, rfl⟩
  · have ed := sf_dg hv
    refine sb_appendInt (by omega) (by decide) hT.1 hT.2 (by omega) (Or.inl (by omega)) (fun a' h1 h2 => ?_)
    have h9 := hp a' (sf_put ed (sf_dec hv) h1 h2)
    rw [List.length_append, ← ed] at h9
    rw [show sb_cap (l.length + sb_dg v) 16 = 16 from if_pos (by omega)]
    exact h9
  · rw [List.length_cons] at hn
    exact sf_neg hT h0 hw (by omega) hp
end
section
/-! the twin's decimal: the loop over the places from 1000000000 down -/
theorem sf_ndiv {w p : Nat} (hw : w < 2 ^ 31) (hp : p < 2 ^ 31) : (-nI w) / nI p = -nI (w / p) := by
  have hq : w / p ≤ w := Nat.div_le_self w p
  apply Int32.toInt_inj.mp
  rw [Int32.toInt_div, sb_negT hw, nI_toInt hp, sb_negT (by omega), Int.neg_tdiv, Int.tdiv_eq_ediv_of_nonneg (by omega), ← Int.natCast_ediv]
  generalize w / p = q at hq
  exact Int.bmod_eq_of_le (by omega) (by omega)
theorem sf_nrem {q : Nat} (hq : q < 2 ^ 31) : (-nI q) - (-nI q) / 10 * 10 = -nI (q % 10) := by
  have h := pk_rem (a := q) (d := 10) hq (by decide) (by decide)
  have e : (-nI q) / 10 = -nI (q / 10) := sf_ndiv (p := 10) hq (by decide)
  rw [pk_div hq (by decide) (by decide)] at h
  rw [← h, e]
  show -nI q - -nI (q / 10) * nI 10 = -(nI q - nI (q / 10) * nI 10)
  grind
/-- the digit at the place p, without its sign -/
theorem sf_dig {A : Int32 → Prop} {x : Int32} {v p : Nat} (hx : x = nI v ∨ x = -nI v) (hv : v < 2 ^ 31) (h0 : 0 < p) (hp : p < 2 ^ 31) (h : A (nI (v / p % 10))) :
    ∀ d : Int32, d = x / nI p - x / nI p / 10 * 10 → ((0 ≤ d → A d) ∧ (¬ 0 ≤ d → ∀ e : Int32, e = -d → A e)) := by
  have hq : v / p ≤ v := Nat.div_le_self v p
  intro d ed
  rcases hx with rfl | rfl
  · rw [pk_div hv h0 hp] at ed
    replace ed := ed.trans (pk_rem (a := v / p) (d := 10) (by omega) (by decide) (by decide))
    subst ed
    exact br_t (nI_pos' (by omega)) h
  · rw [sf_ndiv hv hp, sf_nrem (by omega)] at ed
    subst ed
    by_cases z : v / p % 10 = 0
    · rw [z] at h ⊢
      rw [show -nI 0 = nI 0 from by decide]
      exact br_t (nI_pos' (by decide)) h
    · exact br_f (sf_nle0 (by omega) (by omega)) (nm_r Int32.neg_neg h)
section steps
variable {post : St2 → Prop} {mc ms : Nat} {x1 : Int32} {v p q f : Nat}
theorem sf_skip {c ml z : Int32} {a : Nat → Int32} {m : Nat} (hx : x1 = nI v ∨ x1 = -nI v) (hv : v < 2 ^ 31) (h1 : 1 < p) (hp : p < 2 ^ 31) (hq : p / 10 = q) (hd : v / p % 10 = 0)
    (h : wX1_decimal_16 post mc ms x1 f 0 (nI q) 0 0 c ml z a m) : wX1_decimal_16 post mc ms x1 (f + 1) 0 (nI p) 0 0 c ml z a m := by
  subst hq
  rw [wX1_decimal_16]
  refine br_f (nI_nle (by omega) hp) ⟨nI_ne0 (by omega) hp, by decide, ?_⟩
  refine sf_dig (A := fun d => wX1_decimal_38 post mc ms (wX1_decimal_16 post mc ms x1 f) x1 0 (nI p) d 0 0 c ml z a m) hx hv (by omega) hp ?_
  rw [hd]
  refine br_t rfl (br_f (by decide) (br_f (fun e => ?_) ⟨by decide, nm_r (pk_div (d := 10) hp (by decide) (by decide)) h⟩))
  have := (nI_eq hp (by decide)).mp (show nI p = nI 1 from e)
  omega
theorem sf_52 {J : Int32 → Int32 → Nat → Nat → Int32 → Int32 → Int32 → (Nat → Int32) → Nat → Prop} {ml : Int32} {l : List Nat} {a : Nat → Int32} {d : Nat} (hp : p < 2 ^ 31) (hd : d < 10) (hT : sf_T l a) (hn : l.length + 1 ≤ 16)
    (h : ∀ a', sf_T (l ++ [48 + d]) a' → J 1 (nI (p / 10)) 0 0 0 ml (nI (l ++ [48 + d]).length) a' 16) : wX1_decimal_52 post mc ms J x1 (nI p) (nI d) 0 0 0 ml (nI l.length) a 16 := by
  refine ⟨0, 0, by omega, by omega, ?_⟩
  refine sf_char (c := 48 + d) ?_ hT (by omega) hn (fun a' h1 => ⟨by decide, nm_r (pk_div (d := 10) hp (by decide) (by decide)) (h a' h1)⟩)
  show ((nI 48 + nI d).toUInt32 % 65536).toInt32 = nI (48 + d)
  rw [nI_add]
  exact (sb_byte _ (by omega)).2.1
theorem sf_step {x2 ml : Int32} {l : List Nat} {a : Nat → Int32} (hx : x1 = nI v ∨ x1 = -nI v) (hv : v < 2 ^ 31) (h0 : 0 < p) (hp : p < 2 ^ 31) (hq : p / 10 = q) (hc : ¬ x2 = 0 ∨ 0 < v / p % 10 ∨ p = 1) (hT : sf_T l a) (hn : l.length + 1 ≤ 16)
    (h : ∀ a', sf_T (l ++ [48 + v / p % 10]) a' → wX1_decimal_16 post mc ms x1 f 1 (nI q) 0 0 0 ml (nI (l ++ [48 + v / p % 10]).length) a' 16) : wX1_decimal_16 post mc ms x1 (f + 1) x2 (nI p) 0 0 0 ml (nI l.length) a 16 := by
  subst hq
  have hk := sf_52 (post := post) (mc := mc) (ms := ms) (x1 := x1) hp (show v / p % 10 < 10 by omega) hT hn h
  rw [wX1_decimal_16]
  refine br_f (nI_nle (by omega) hp) ⟨nI_ne0 (by omega) hp, by decide, ?_⟩
  refine sf_dig (A := fun d => wX1_decimal_38 post mc ms (wX1_decimal_16 post mc ms x1 f) x1 x2 (nI p) d 0 0 0 ml (nI l.length) a 16) hx hv (by omega) hp ?_
  refine br_c (fun e2 => ?_) (fun _ => hk)
  refine br_c (fun _ => hk) (fun e4 => ?_)
  refine br_c (fun _ => hk) (fun e3 => ?_)
  rcases hc with hc | hc | hc
  · exact absurd e2 hc
  · exact absurd (nI_lt (a := 0) hc (by omega)) e4
  · exact absurd (congrArg nI hc) e3
theorem sf_end {x2 ml : Int32} {l : List Nat} {a : Nat → Int32} (hx : x1 = nI v ∨ x1 = -nI v) (hv : v < 2 ^ 31) (hT : sf_T l a) (hn : l.length + 1 ≤ 16)
    (h : ∀ a', sf_T (l ++ [48 + v % 10]) a' → post (0, ml, nI (l ++ [48 + v % 10]).length, a', 16)) : wX1_decimal_16 post mc ms x1 (f + 1 + 1) x2 (nI 1) 0 0 0 ml (nI l.length) a 16 := by
  refine sf_step (p := 1) (q := 0) hx hv (by decide) (by decide) (by decide) (Or.inr (Or.inr rfl)) hT hn (fun a' h1 => ?_)
  rw [Nat.div_one] at h1 ⊢
  rw [wX1_decimal_16]
  exact br_t (by decide) (h a' h1)
end steps
/-- the loop of decimal, for a number whose amount is below 1000 -/
theorem sf_loop {post : St2 → Prop} {mc ms : Nat} {x1 ml : Int32} {v : Nat} {l : List Nat} {a : Nat → Int32} (hx : x1 = nI v ∨ x1 = -nI v) (hv : v < 1000) (hT : sf_T l a) (hn : l.length + (sf_D v).length ≤ 16)
    (hp : ∀ a', sf_T (l ++ sf_D v) a' → post (0, ml, nI (l ++ sf_D v).length, a', 16)) : ∃ fu : Nat, wX1_decimal_16 post mc ms x1 fu 0 1000000000 0 0 0 ml (nI l.length) a 16 := by
  have hv' : v < 2 ^ 31 := by omega
  refine ⟨11, ?_⟩
  refine sf_skip (p := 1000000000) (q := 100000000) hx hv' (by decide) (by decide) (by decide) (by omega) ?_
  refine sf_skip (p := 100000000) (q := 10000000) hx hv' (by decide) (by decide) (by decide) (by omega) ?_
  refine sf_skip (p := 10000000) (q := 1000000) hx hv' (by decide) (by decide) (by decide) (by omega) ?_
  refine sf_skip (p := 1000000) (q := 100000) hx hv' (by decide) (by decide) (by decide) (by omega) ?_
  refine sf_skip (p := 100000) (q := 10000) hx hv' (by decide) (by decide) (by decide) (by omega) ?_
  refine sf_skip (p := 10000) (q := 1000) hx hv' (by decide) (by decide) (by decide) (by omega) ?_
  refine sf_skip (p := 1000) (q := 100) hx hv' (by decide) (by decide) (by decide) (by omega) ?_
  by_cases h3 : v < 100
  · refine sf_skip (p := 100) (q := 10) hx hv' (by decide) (by decide) (by decide) (by omega) ?_
    by_cases h2 : v < 10
    · refine sf_skip (p := 10) (q := 1) hx hv' (by decide) (by decide) (by decide) (by omega) ?_
      rw [sf_D1 h2] at hn hp
      refine sf_end hx hv' hT hn ?_
      rw [show v % 10 = v by omega]
      exact hp
    · rw [sf_D2 (by omega) h3] at hn hp
      replace hn : l.length + 2 ≤ 16 := hn
      refine sf_step (p := 10) (q := 1) hx hv' (by decide) (by decide) (by decide) (Or.inr (Or.inl (by omega))) hT (by omega) (fun a1 h1 => ?_)
      refine sf_end hx hv' h1 (by rw [List.length_append]; exact hn) ?_
      rw [show v / 10 % 10 = v / 10 by omega, List.append_assoc]
      exact hp
  · rw [sf_D3 (by omega)] at hn hp
    replace hn : l.length + 3 ≤ 16 := hn
    refine sf_step (p := 100) (q := 10) hx hv' (by decide) (by decide) (by decide) (Or.inr (Or.inl (by omega))) hT (by omega) (fun a1 h1 => ?_)
    refine sf_step (p := 10) (q := 1) hx hv' (by decide) (by decide) (by decide) (Or.inl (by decide)) h1 (by rw [List.length_append]; exact (by omega : l.length + 1 + 1 ≤ 16)) (fun a2 h2 => ?_)
    refine sf_end hx hv' h2 (by rw [List.length_append, List.length_append]; exact hn) ?_
    rw [show v / 100 % 10 = v / 100 by omega, List.append_assoc, List.append_assoc]
    exact hp
/-- SumFormsPlain.decimal -/
theorem sf_decimal {post : St2 → Prop} {mc ms : Nat} {ml x : Int32} {l y : List Nat} {a : Nat → Int32} (hx : sf_I x y) (hT : sf_T l a) (hn : l.length + y.length ≤ 16)
    (hp : ∀ a', sf_T (l ++ y) a' → post (0, ml, nI (l ++ y).length, a', 16)) : wpX1_decimal post mc ms (0, ml, nI l.length, a, 16) x := by
  rcases hx with ⟨v, hv, rfl, rfl⟩ | ⟨w, h0, hw, rfl, rfl⟩
  · exact br_t (nI_pos' (by omega)) (sf_loop (Or.inl rfl) hv hT hn hp)
  · rw [List.length_cons] at hn
    refine br_f (sf_nle0 h0 (by omega)) ⟨0, 0, by omega, by omega, ?_⟩
    refine sf_char (c := 45) rfl hT (by decide) (by omega) (fun a1 h1 => ?_)
    refine sf_loop (Or.inr rfl) (by omega) h1 (by rw [List.length_append, List.length_singleton]; omega) ?_
    rw [List.append_assoc]
    exact hp
end
section
/-! the two signAndCode: both end with a String of the same letters -/
/-- the letters of the answer: c the sign, s the sign moved on, z the fourth sign, y the letters of the fifth number -/
def sf_L (c s z : Nat) (y : List Nat) : List Nat := [] ++ [c] ++ sf_D s ++ [s] ++ [z] ++ y ++ [s] ++ sf_D s ++ [s + 1]
theorem sf_Llen {c s z : Nat} {y : List Nat} (hy : y.length ≤ 3) : (sf_L c s z y).length ≤ 14 := by
  have h := sf_Dlen s
  unfold sf_L
  simp only [List.length_append, List.length_cons, List.length_nil]
  omega
theorem sf_chr {x : Int32} {s : Nat} (h : x = nI s) (hs : s < 256) : (x.toUInt32 % 65536).toInt32 = nI s := by
  subst h
  exact (sb_byte s hs).2.1
theorem sf_nat {x : Int32} {s : Nat} (h : x = nI s) (hs : s < 1000) : sf_I x (sf_D s) := Or.inl ⟨s, hs, h, rfl⟩
/-- StringBuilder.toString -/
theorem sf_str {post : StJ9c5ae → Prop} {mc ms : Nat} {ml : Int32} {l : List Nat} {a : Nat → Int32} (hT : sf_T l a) (hn : l.length ≤ 16) (hmc : 2 ≤ mc) (hms : 20 ≤ ms)
    (hp : ∀ a', sf_T l a' → post (0, ml, nI l.length, a, 16, 0, 0, 0, a', l.length)) : wpJ4_toString_0e30d_76c3d post mc ms (0, ml, nI l.length, a, 16) :=
  sb_toString hn (by decide) hT.1 hT.2 hmc (by omega) (fun a' h1 h2 => hp a' ⟨h1, h2⟩)
section walk
variable {post : St1 → Prop} {mc ms kc ks : Nat} {x0 x1 z0 ml : Int32} {c s z : Nat} {y l : List Nat} {a : Nat → Int32}
theorem sf_X48 (hk : kc + 2 ≤ mc) (hks : ks + 20 ≤ ms) (es : x0 + x1 = nI s) (hs : s < 255) (hy : sf_I z0 y) (hyl : y.length ≤ 3) (hT : sf_T l a) (hn : l.length ≤ 6)
    (hp : ∀ a', sf_T (l ++ y ++ [s] ++ sf_D s ++ [s + 1]) a' → post (0, 0, 0, a', (l ++ y ++ [s] ++ sf_D s ++ [s + 1]).length)) : wX0_signAndCode_48 post mc ms x0 x1 z0 kc ks 0 ml (nI l.length) a 16 := by
  have hd := sf_Dlen s
  refine ⟨0, 0, by omega, by omega, sf_int hy hT (by omega) (fun a1 h1 => ?_)⟩
  refine nm_r (sf_chr es (by omega)) ⟨0, 0, by omega, by omega, sf_char rfl h1 (by omega) (by simp only [List.length_append]; omega) (fun a2 h2 => ?_)⟩
  refine nm_r (sf_chr (nI_1 s) (by omega)) ⟨0, 0, by omega, by omega, sf_int (sf_nat rfl (by omega)) h2 (by simp only [List.length_append, List.length_cons, List.length_nil]; omega) (fun a3 h3 => ?_)⟩
  refine ⟨0, 0, by omega, by omega, sf_char rfl h3 (by omega) (by simp only [List.length_append, List.length_cons, List.length_nil]; omega) (fun a4 h4 => ?_)⟩
  exact ⟨2, 20, by omega, by omega, sf_str h4 (by simp only [List.length_append, List.length_cons, List.length_nil]; omega) (by decide) (by decide) hp⟩
theorem sf_X36 (hk : kc + 2 ≤ mc) (hks : ks + 20 ≤ ms) (e0 : x0 = nI c) (es : x0 + x1 = nI s) (hs : s < 255) (ez : z0 = nI z) (hz : z < 256) (hy : (x1 ≤ 0 ∧ sf_I x1 y) ∨ (¬ x1 ≤ 0 ∧ sf_I x0 y)) (hyl : y.length ≤ 3) (hT : sf_T l a) (hn : l.length ≤ 5)
    (hp : ∀ a', sf_T (l ++ [z] ++ y ++ [s] ++ sf_D s ++ [s + 1]) a' → post (0, 0, 0, a', (l ++ [z] ++ y ++ [s] ++ sf_D s ++ [s + 1]).length)) : wX0_signAndCode_36 post mc ms x0 x1 z0 kc ks 0 ml (nI l.length) a 16 := by
  refine ⟨0, 0, by omega, by omega, sf_char ez hT hz (by omega) (fun a1 h1 => ?_)⟩
  have h6 : (l ++ [z]).length ≤ 6 := by
    rw [List.length_append, List.length_singleton]
    omega
  rcases hy with ⟨n1, hy⟩ | ⟨n1, hy⟩
  · exact br_t n1 (sf_X48 hk hks es hs hy hyl h1 h6 hp)
  · exact br_f n1 (sf_X48 hk hks es hs hy hyl h1 h6 hp)
/-- SumForms.signAndCode -/
theorem sf_X0 (hmc : 4 ≤ mc) (hms : 40 ≤ ms) (e0 : x0 = nI c) (hc : c < 256) (es : x0 + x1 = nI s) (hs : s < 255) (hz : (x1 ≤ 0 ∧ z = 120 ∧ sf_I x1 y) ∨ (¬ x1 ≤ 0 ∧ z = c ∧ sf_I x0 y)) (hyl : y.length ≤ 3)
    (hp : ∀ a', sf_T (sf_L c s z y) a' → post (0, 0, 0, a', (sf_L c s z y).length)) : wpX0_signAndCode post mc ms () x0 x1 := by
  have hd := sf_Dlen s
  refine ⟨by omega, by omega, 1, 16, by omega, by omega, 1, 16, by omega, by omega, by decide, nm_r (e' := 16) (by decide) ⟨by decide, by decide, by decide, ?_⟩⟩
  refine ⟨0, 0, by omega, by omega, sf_char (l := []) e0 sf_T0 hc (by decide) (fun a1 h1 => ?_)⟩
  refine ⟨0, 0, by omega, by omega, sf_int (sf_nat es (by omega)) h1 (by simp only [List.length_append, List.length_cons, List.length_nil]; omega) (fun a2 h2 => ?_)⟩
  refine ⟨0, 0, by omega, by omega, sf_char (sf_chr es (by omega)) h2 (by omega) (by simp only [List.length_append, List.length_cons, List.length_nil]; omega) (fun a3 h3 => ?_)⟩
  have h5 : ([] ++ [c] ++ sf_D s ++ [s]).length ≤ 5 := by
    simp only [List.length_append, List.length_cons, List.length_nil]
    omega
  rcases hz with ⟨n1, rfl, hy⟩ | ⟨n1, rfl, hy⟩
  · exact br_t n1 (sf_X36 (by omega) (by omega) e0 es hs rfl (by decide) (Or.inl ⟨n1, hy⟩) hyl h3 h5 hp)
  · exact br_f n1 (sf_X36 (by omega) (by omega) e0 es hs e0 hc (Or.inr ⟨n1, hy⟩) hyl h3 h5 hp)
theorem sf_Y95 (hk : kc + 2 ≤ mc) (hks : ks + 20 ≤ ms) (ez : z0 = nI z) (hz : z < 256) (hT : sf_T l a) (hn : l.length ≤ 13)
    (hp : ∀ a', sf_T (l ++ [z]) a' → post (0, 0, 0, a', (l ++ [z]).length)) : wX1_signAndCode_95 post mc ms z0 kc ks 0 ml (nI l.length) a 16 := by
  refine ⟨0, 0, by omega, by omega, sf_char (sf_chr ez hz) hT hz (by omega) (fun a1 h1 => ?_)⟩
  exact ⟨2, 20, by omega, by omega, sf_str h1 (by rw [List.length_append, List.length_singleton]; omega) (by decide) (by decide) hp⟩
theorem sf_Y62 (hk : kc + 2 ≤ mc) (hks : ks + 20 ≤ ms) (hs : s < 255) (hy : sf_I z0 y) (hyl : y.length ≤ 3) (hT : sf_T l a) (hn : l.length ≤ 6)
    (hp : ∀ a', sf_T (l ++ y ++ [s] ++ sf_D s ++ [s + 1]) a' → post (0, 0, 0, a', (l ++ y ++ [s] ++ sf_D s ++ [s + 1]).length)) : wX1_signAndCode_62 post mc ms (nI s) z0 kc ks 0 ml (nI l.length) a 16 := by
  have hd := sf_Dlen s
  refine ⟨0, 0, by omega, by omega, sf_decimal hy hT (by omega) (fun a1 h1 => ?_)⟩
  refine ⟨0, 0, by omega, by omega, sf_char (sf_chr rfl (by omega)) h1 (by omega) (by simp only [List.length_append]; omega) (fun a2 h2 => ?_)⟩
  refine ⟨0, 0, by omega, by omega, sf_decimal (sf_nat rfl (by omega)) h2 (by simp only [List.length_append, List.length_cons, List.length_nil]; omega) (fun a3 h3 => ?_)⟩
  refine br_f (fun e => ?_) (sf_Y95 hk hks (nI_1 s) (by omega) h3 (by simp only [List.length_append, List.length_cons, List.length_nil]; omega) hp)
  have := (nI_eq (by omega) (by decide)).mp (show nI s = nI 65535 from e)
  omega
theorem sf_Y48 (hk : kc + 2 ≤ mc) (hks : ks + 20 ≤ ms) (hs : s < 255) (ez : z0 = nI z) (hz : z < 256) (hy : (x1 ≤ 0 ∧ sf_I x1 y) ∨ (¬ x1 ≤ 0 ∧ sf_I x0 y)) (hyl : y.length ≤ 3) (hT : sf_T l a) (hn : l.length ≤ 5)
    (hp : ∀ a', sf_T (l ++ [z] ++ y ++ [s] ++ sf_D s ++ [s + 1]) a' → post (0, 0, 0, a', (l ++ [z] ++ y ++ [s] ++ sf_D s ++ [s + 1]).length)) : wX1_signAndCode_48 post mc ms x0 x1 (nI s) z0 kc ks 0 ml (nI l.length) a 16 := by
  refine ⟨0, 0, by omega, by omega, sf_char ez hT hz (by omega) (fun a1 h1 => ?_)⟩
  have h6 : (l ++ [z]).length ≤ 6 := by
    rw [List.length_append, List.length_singleton]
    omega
  rcases hy with ⟨n1, hy⟩ | ⟨n1, hy⟩
  · exact br_t n1 (sf_Y62 hk hks hs hy hyl h1 h6 hp)
  · exact br_f n1 (sf_Y62 hk hks hs hy hyl h1 h6 hp)
/-- SumFormsPlain.signAndCode -/
theorem sf_X1 (hmc : 4 ≤ mc) (hms : 40 ≤ ms) (e0 : x0 = nI c) (hc : c < 256) (es : x0 + x1 = nI s) (hs : s < 255) (hz : (x1 ≤ 0 ∧ z = 120 ∧ sf_I x1 y) ∨ (¬ x1 ≤ 0 ∧ z = c ∧ sf_I x0 y)) (hyl : y.length ≤ 3)
    (hp : ∀ a', sf_T (sf_L c s z y) a' → post (0, 0, 0, a', (sf_L c s z y).length)) : wpX1_signAndCode post mc ms () x0 x1 := by
  have hd := sf_Dlen s
  have el : nI s &&& 65535 = nI s := by
    rw [pk_andN (by omega) 16 (by decide), Nat.mod_eq_of_lt (by omega)]
  refine ⟨by omega, by omega, 1, 16, by omega, by omega, 1, 16, by omega, by omega, by decide, nm_r (e' := 16) (by decide) ⟨by decide, by decide, by decide, ?_⟩⟩
  refine nm_r es (nm_r el ?_)
  refine ⟨0, 0, by omega, by omega, sf_char (l := []) e0 sf_T0 hc (by decide) (fun a1 h1 => ?_)⟩
  refine ⟨0, 0, by omega, by omega, sf_decimal (sf_nat rfl (by omega)) h1 (by simp only [List.length_append, List.length_cons, List.length_nil]; omega) (fun a2 h2 => ?_)⟩
  refine ⟨0, 0, by omega, by omega, sf_char (sf_chr rfl (by omega)) h2 (by omega) (by simp only [List.length_append, List.length_cons, List.length_nil]; omega) (fun a3 h3 => ?_)⟩
  have h5 : ([] ++ [c] ++ sf_D s ++ [s]).length ≤ 5 := by
    simp only [List.length_append, List.length_cons, List.length_nil]
    omega
  rcases hz with ⟨n1, rfl, hy⟩ | ⟨n1, rfl, hy⟩
  · exact br_t n1 (sf_Y48 (by omega) (by omega) hs rfl (by decide) (Or.inl ⟨n1, hy⟩) hyl h3 h5 hp)
  · exact br_f n1 (sf_Y48 (by omega) (by omega) hs e0 hc (Or.inr ⟨n1, hy⟩) hyl h3 h5 hp)
end walk
end
section
/-! the law -/
theorem sf_both {post : Int32 → Prop} {x0 x1 : Int32} {c s z : Nat} {y : List Nat} (hP : post 1) (e0 : x0 = nI c) (hc : c < 256) (es : x0 + x1 = nI s) (hs : s < 255) (hz : (x1 ≤ 0 ∧ z = 120 ∧ sf_I x1 y) ∨ (¬ x1 ≤ 0 ∧ z = c ∧ sf_I x0 y)) (hyl : y.length ≤ 3) :
    wpX0_signAndCode (fun u => match u with | (c1, h1, i1, a1, n1) => (∃ mc ms : Nat, 0 + 4 + mc ≤ 8 ∧ 0 + 40 + ms ≤ 80 ∧ (wpX1_signAndCode (fun u => match u with | (c2, h2, i2, a2, n2) => (wpJ0_equals_9ea2d_d3b40 (fun r => (narrow .boolean (.int r) = .int r ∧ post r)) (c1, h1, i1, a1, n1, c2, h2, i2, a2, n2))) mc ms () x0 x1))) 4 40 () x0 x1 := by
  have hl := sf_Llen (c := c) (s := s) (z := z) hyl
  refine sf_X0 (by decide) (by decide) e0 hc es hs hz hyl (fun a1 h1 => ⟨4, 40, by decide, by decide, ?_⟩)
  refine sf_X1 (by decide) (by decide) e0 hc es hs hz hyl (fun a2 h2 => ?_)
  exact sv_equals (by omega) (fun j hj => (h1.1 j hj).2.trans (h2.1 j hj).2.symm) ⟨by decide, hP⟩
theorem sf_lawOf {post : Int32 → Prop} (hP : post 1) (p0 p1 : Int32) : wpL_lawOf (fun r _ => post r) 8 80 () p0 p1 := by
  obtain ⟨j, hj, ej⟩ := pk_andE p0 7 (m := 127) (by decide)
  obtain ⟨k, hk, ek⟩ := pk_andE p1 6 (m := 63) (by decide)
  have e0 : ((64 + (p0 &&& 127)).toUInt32 % 65536).toInt32 = nI (64 + j) := by
    rw [ej]
    exact sf_chr (nI_add 64 j) (by omega)
  refine nm_r e0 ?_
  intro x1 e1
  replace e1 : x1 = nI k - nI 31 := by
    rw [ek] at e1
    exact e1
  have es : nI (64 + j) + x1 = nI (33 + j + k) := by
    have h1 : nI (64 + j) = nI (33 + j) + nI 31 := by
      rw [nI_add]
      exact congrArg nI (by omega)
    rw [e1, h1, ← nI_add (33 + j) k]
    grind
  by_cases h : k ≤ 31
  · have e2 : x1 = -nI (31 - k) := by
      have h1 : nI 31 = nI (31 - k) + nI k := by
        rw [nI_add]
        exact congrArg nI (by omega)
      rw [e1, h1]
      grind
    have hle : x1 ≤ 0 := by
      rw [e2, Int32.le_iff_toInt_le, sb_negT (by omega), Int32.toInt_zero]
      omega
    by_cases h0 : k = 31
    · subst h0
      exact ⟨4, 40, by decide, by decide, sf_both hP rfl (by omega) es (by omega) (Or.inl ⟨hle, rfl, Or.inl ⟨0, by decide, e2, rfl⟩⟩) (sf_Dlen 0)⟩
    · have hyl : (45 :: sf_D (31 - k)).length ≤ 3 := by
        by_cases h9 : 31 - k < 10
        · rw [sf_D1 h9]
          exact (by decide : 2 ≤ 3)
        · rw [sf_D2 (by omega) (by omega)]
          exact (by decide : 3 ≤ 3)
      exact ⟨4, 40, by decide, by decide, sf_both hP rfl (by omega) es (by omega) (Or.inl ⟨hle, rfl, Or.inr ⟨31 - k, by omega, by omega, e2, rfl⟩⟩) hyl⟩
  · have e2 : x1 = nI (k - 31) := e1.trans (pk_sub (by omega))
    have hle : ¬ x1 ≤ 0 := by
      rw [e2]
      exact nI_nle (by omega) (by omega)
    exact ⟨4, 40, by decide, by decide, sf_both hP rfl (by omega) es (by omega) (Or.inr ⟨hle, rfl, Or.inl ⟨64 + j, by omega, rfl, rfl⟩⟩) (sf_Dlen _)⟩
theorem sf_cell {post : Int32 → Prop} {L : Nat} {xs : Nat → Int32} (i : Nat) (hi : i < 2 ^ 31) (hL : L < 2 ^ 31) (h : ∀ x, post x) : wpL_cellAt post L xs () (nI i) :=
  br_c (fun _ => h 0) (fun z => ⟨vp_in_nI (Nat.lt_of_not_le (fun c => z (nI_le c hi))) hL, h _⟩)
theorem i_vc (xs : Nat → Int32) (L : Nat) (hL : L ≤ 2) : wpL_law (fun r => r = 1) L xs := by
  refine sf_cell 0 (by decide) (by omega) (fun r1 => ?_)
  refine sf_cell 1 (by decide) (by omega) (fun r2 => ?_)
  exact ⟨8, 80, by decide, by decide, sf_lawOf (post := fun r => r = 1) rfl r1 r2⟩
end
